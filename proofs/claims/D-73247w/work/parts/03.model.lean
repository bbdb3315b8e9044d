/-! QueueDriveModel -/
set_option maxRecDepth 100000
def RX4 : String := "QueueDriveModel"
def TX4 : u_T := fun k => match k with
  | 0 => ("QueueDriveModel", "thrown", "I", false)
  | 1 => ("QueueDriveModel", "told", "I", false)
  | 2 => ("QueueDriveModel", "row", "[J", true)
  | 3 => ("QueueDriveModel", "tape", "[I", true)
  | 4 => ("QueueDriveModel", "taped", "I", false)
  | 5 => ("QueueDriveModel", "at", "I", false)
  | 6 => ("QueueDriveModel", "to", "I", false)
  | 7 => ("QueueDriveModel", "nest", "I", false)
  | 8 => ("QueueDriveModel", "code", "[I", true)
  | 9 => ("QueueDriveModel", "readCode", "[I", true)
  | 10 => ("QueueDriveModel", "codeLong", "I", false)
  | 11 => ("QueueDriveModel", "codesRead", "I", false)
  | 12 => ("QueueDriveModel", "stack", "[I", true)
  | 13 => ("QueueDriveModel", "asked", "[I", true)
  | 14 => ("QueueDriveModel", "queues", "I", false)
  | 15 => ("QueueDriveModel", "changes", "I", false)
  | 16 => ("QueueDriveModel", "slots", "[I", true)
  | 17 => ("QueueDriveModel", "places", "[I", true)
  | 18 => ("QueueDriveModel", "kind", "[I", true)
  | 19 => ("QueueDriveModel", "shadowed", "[I", true)
  | 20 => ("QueueDriveModel", "now", "[I", true)
  | 21 => ("QueueDriveModel", "then", "[I", true)
  | 22 => ("QueueDriveModel", "undos", "I", false)
  | 23 => ("QueueDriveModel", "undone", "[I", true)
  | 24 => ("QueueDriveModel", "postedMany", "I", false)
  | 25 => ("QueueDriveModel", "fetchedMany", "I", false)
  | 26 => ("QueueDriveModel", "idleMany", "I", false)
  | 27 => ("QueueDriveModel", "actSign", "[I", true)
  | 28 => ("QueueDriveModel", "actOne", "[I", true)
  | 29 => ("QueueDriveModel", "actTwo", "[I", true)
  | 30 => ("QueueDriveModel", "actThree", "[I", true)
  | 31 => ("QueueDriveModel", "actFour", "[I", true)
  | 32 => ("QueueDriveModel", "acts", "I", false)
  | 33 => ("QueueDriveModel", "often", "[I", true)
  | 34 => ("QueueDriveModel", "oftenOf", "[I", true)
  | 35 => ("QueueDriveModel", "takenMany", "I", false)
  | 36 => ("QueueDriveModel", "heardMany", "I", false)
  | 37 => ("QueueDriveModel", "heardWhat", "[I", true)
  | 38 => ("QueueDriveModel", "heardOf", "[I", true)
  | 39 => ("QueueDriveModel", "winning", "[I", true)
  | 40 => ("QueueDriveModel", "wasCode", "[I", true)
  | 41 => ("QueueDriveModel", "random", "I", false)
  | 42 => ("QueueDriveModel", "isKept", "[Z", true)
  | 43 => ("QueueDriveModel", "keptChanges", "[I", true)
  | _ => ("QueueDriveModel", "kept", "[I", true)
def tyX4 : Nat → FieldType := fun k => match k with
  | 0 => .int
  | 1 => .int
  | 2 => .array .long
  | 3 => .array .int
  | 4 => .int
  | 5 => .int
  | 6 => .int
  | 7 => .int
  | 8 => .array .int
  | 9 => .array .int
  | 10 => .int
  | 11 => .int
  | 12 => .array .int
  | 13 => .array .int
  | 14 => .int
  | 15 => .int
  | 16 => .array .int
  | 17 => .array .int
  | 18 => .array .int
  | 19 => .array .int
  | 20 => .array .int
  | 21 => .array .int
  | 22 => .int
  | 23 => .array .int
  | 24 => .int
  | 25 => .int
  | 26 => .int
  | 27 => .array .int
  | 28 => .array .int
  | 29 => .array .int
  | 30 => .array .int
  | 31 => .array .int
  | 32 => .int
  | 33 => .array .int
  | 34 => .array .int
  | 35 => .int
  | 36 => .int
  | 37 => .array .int
  | 38 => .array .int
  | 39 => .array .int
  | 40 => .array .int
  | 41 => .int
  | 42 => .array .boolean
  | 43 => .array .int
  | _ => .array .int
abbrev wsX40 : List Cond := u_ws RX4 TX4 45
set_option maxRecDepth 100000 in
theorem nmX4 : ∀ a, a < 45 → ∀ b, b < 45 → a ≠ b → (TX4 a).2.1 ≠ (TX4 b).2.1 := by decide +kernel
set_option maxRecDepth 100000 in
theorem tyX4_ok : ∀ k, k < 45 → parseFieldDescriptor (TX4 k).2.2.1 = some (tyX4 k) := by decide +kernel
abbrev cX4_thrown : ByteArray := prog_13_method_1_code
def yX4_thrown : MethodName := ⟨RX4, "thrown", "()I"⟩
theorem dX4_thrown_0 : decode cX4_thrown 0 = .ok (.aload_n 0, 1) := by decide +kernel
theorem dX4_thrown_1 : decode cX4_thrown 1 = .ok (.getfield 3, 3) := by decide +kernel
theorem dX4_thrown_4 : decode cX4_thrown 4 = .ok (.ireturn, 1) := by decide +kernel
abbrev cX4_sign : ByteArray := prog_13_method_6_code
def yX4_sign : MethodName := ⟨RX4, "sign", "(I)I"⟩
def dkwX4_sign_2 : List UInt8 := [132, 2, 1, 167, 255, 224, 42, 89, 180, 0, 14, 7, 96, 181, 0, 14, 42, 180, 0, 14, 172]
abbrev dktX4_sign_2 : List UInt8 := dkwX4_sign_2 ++ []
def dkwX4_sign_1 : List UInt8 := [180, 0, 17, 42, 180, 0, 14, 28, 96, 27, 16, 24, 16, 8, 28, 104, 100, 122, 17, 0, 255, 126, 79]
abbrev dktX4_sign_1 : List UInt8 := dkwX4_sign_1 ++ dktX4_sign_2
def dkwX4_sign_0 : List UInt8 := [42, 3, 181, 0, 3, 42, 180, 0, 14, 16, 76, 164, 0, 5, 2, 172, 3, 61, 28, 7, 162, 0, 33, 42]
abbrev dktX4_sign_0 : List UInt8 := dkwX4_sign_0 ++ dktX4_sign_1
theorem dksX4_sign_0 : cX4_sign.data.toList.drop 0 = dktX4_sign_0 := by decide +kernel
theorem dksX4_sign_1 : cX4_sign.data.toList.drop 24 = dktX4_sign_1 := dk_seg dksX4_sign_0 24 rfl rfl
theorem dksX4_sign_2 : cX4_sign.data.toList.drop 47 = dktX4_sign_2 := dk_seg dksX4_sign_1 23 rfl rfl
theorem dX4_sign_0 : decode cX4_sign 0 = .ok (.aload_n 0, 1) := dk_42 (dk_at dksX4_sign_0 0 rfl rfl)
theorem dX4_sign_1 : decode cX4_sign 1 = .ok (.iconst 0, 1) := dk_3 (dk_at dksX4_sign_0 1 rfl rfl)
theorem dX4_sign_2 : decode cX4_sign 2 = .ok (.putfield 3, 3) := dk_181 0 3 (dk_at dksX4_sign_0 2 rfl rfl)
theorem dX4_sign_5 : decode cX4_sign 5 = .ok (.aload_n 0, 1) := dk_42 (dk_at dksX4_sign_0 5 rfl rfl)
theorem dX4_sign_6 : decode cX4_sign 6 = .ok (.getfield 14, 3) := dk_180 0 14 (dk_at dksX4_sign_0 6 rfl rfl)
theorem dX4_sign_9 : decode cX4_sign 9 = .ok (.bipush 76, 2) := dk_16 76 (dk_at dksX4_sign_0 9 rfl rfl)
theorem dX4_sign_11 : decode cX4_sign 11 = .ok (.if_icmp .le 5, 3) := dk_164 0 5 (dk_at dksX4_sign_0 11 rfl rfl)
theorem dX4_sign_14 : decode cX4_sign 14 = .ok (.iconst (-1), 1) := dk_2 (dk_at dksX4_sign_0 14 rfl rfl)
theorem dX4_sign_15 : decode cX4_sign 15 = .ok (.ireturn, 1) := dk_172 (dk_at dksX4_sign_0 15 rfl rfl)
theorem dX4_sign_16 : decode cX4_sign 16 = .ok (.iconst 0, 1) := dk_3 (dk_at dksX4_sign_0 16 rfl rfl)
theorem dX4_sign_17 : decode cX4_sign 17 = .ok (.istore_n 2, 1) := dk_61 (dk_at dksX4_sign_0 17 rfl rfl)
theorem dX4_sign_18 : decode cX4_sign 18 = .ok (.iload_n 2, 1) := dk_28 (dk_at dksX4_sign_0 18 rfl rfl)
theorem dX4_sign_19 : decode cX4_sign 19 = .ok (.iconst 4, 1) := dk_7 (dk_at dksX4_sign_0 19 rfl rfl)
theorem dX4_sign_20 : decode cX4_sign 20 = .ok (.if_icmp .ge 33, 3) := dk_162 0 33 (dk_at dksX4_sign_0 20 rfl rfl)
theorem dX4_sign_23 : decode cX4_sign 23 = .ok (.aload_n 0, 1) := dk_42 (dk_at dksX4_sign_0 23 rfl rfl)
theorem dX4_sign_24 : decode cX4_sign 24 = .ok (.getfield 17, 3) := dk_180 0 17 (dk_at dksX4_sign_1 0 rfl rfl)
theorem dX4_sign_27 : decode cX4_sign 27 = .ok (.aload_n 0, 1) := dk_42 (dk_at dksX4_sign_1 3 rfl rfl)
theorem dX4_sign_28 : decode cX4_sign 28 = .ok (.getfield 14, 3) := dk_180 0 14 (dk_at dksX4_sign_1 4 rfl rfl)
theorem dX4_sign_31 : decode cX4_sign 31 = .ok (.iload_n 2, 1) := dk_28 (dk_at dksX4_sign_1 7 rfl rfl)
theorem dX4_sign_32 : decode cX4_sign 32 = .ok (.iadd, 1) := dk_96 (dk_at dksX4_sign_1 8 rfl rfl)
theorem dX4_sign_33 : decode cX4_sign 33 = .ok (.iload_n 1, 1) := dk_27 (dk_at dksX4_sign_1 9 rfl rfl)
theorem dX4_sign_34 : decode cX4_sign 34 = .ok (.bipush 24, 2) := dk_16 24 (dk_at dksX4_sign_1 10 rfl rfl)
theorem dX4_sign_36 : decode cX4_sign 36 = .ok (.bipush 8, 2) := dk_16 8 (dk_at dksX4_sign_1 12 rfl rfl)
theorem dX4_sign_38 : decode cX4_sign 38 = .ok (.iload_n 2, 1) := dk_28 (dk_at dksX4_sign_1 14 rfl rfl)
theorem dX4_sign_39 : decode cX4_sign 39 = .ok (.imul, 1) := dk_104 (dk_at dksX4_sign_1 15 rfl rfl)
theorem dX4_sign_40 : decode cX4_sign 40 = .ok (.isub, 1) := dk_100 (dk_at dksX4_sign_1 16 rfl rfl)
theorem dX4_sign_41 : decode cX4_sign 41 = .ok (.ishr, 1) := dk_122 (dk_at dksX4_sign_1 17 rfl rfl)
theorem dX4_sign_42 : decode cX4_sign 42 = .ok (.sipush 255, 3) := dk_17 0 255 (dk_at dksX4_sign_1 18 rfl rfl)
theorem dX4_sign_45 : decode cX4_sign 45 = .ok (.iand, 1) := dk_126 (dk_at dksX4_sign_1 21 rfl rfl)
theorem dX4_sign_46 : decode cX4_sign 46 = .ok (.iastore, 1) := dk_79 (dk_at dksX4_sign_1 22 rfl rfl)
theorem dX4_sign_47 : decode cX4_sign 47 = .ok (.iinc 2 1, 3) := dk_132 2 1 (dk_at dksX4_sign_2 0 rfl rfl)
theorem dX4_sign_50 : decode cX4_sign 50 = .ok (.goto (-32), 3) := dk_167 255 224 (dk_at dksX4_sign_2 3 rfl rfl)
theorem dX4_sign_53 : decode cX4_sign 53 = .ok (.aload_n 0, 1) := dk_42 (dk_at dksX4_sign_2 6 rfl rfl)
theorem dX4_sign_54 : decode cX4_sign 54 = .ok (.dup, 1) := dk_89 (dk_at dksX4_sign_2 7 rfl rfl)
theorem dX4_sign_55 : decode cX4_sign 55 = .ok (.getfield 14, 3) := dk_180 0 14 (dk_at dksX4_sign_2 8 rfl rfl)
theorem dX4_sign_58 : decode cX4_sign 58 = .ok (.iconst 4, 1) := dk_7 (dk_at dksX4_sign_2 11 rfl rfl)
theorem dX4_sign_59 : decode cX4_sign 59 = .ok (.iadd, 1) := dk_96 (dk_at dksX4_sign_2 12 rfl rfl)
theorem dX4_sign_60 : decode cX4_sign 60 = .ok (.putfield 14, 3) := dk_181 0 14 (dk_at dksX4_sign_2 13 rfl rfl)
theorem dX4_sign_63 : decode cX4_sign 63 = .ok (.aload_n 0, 1) := dk_42 (dk_at dksX4_sign_2 16 rfl rfl)
theorem dX4_sign_64 : decode cX4_sign 64 = .ok (.getfield 14, 3) := dk_180 0 14 (dk_at dksX4_sign_2 17 rfl rfl)
theorem dX4_sign_67 : decode cX4_sign 67 = .ok (.ireturn, 1) := dk_172 (dk_at dksX4_sign_2 20 rfl rfl)
abbrev cX4_end : ByteArray := prog_13_method_7_code
def yX4_end : MethodName := ⟨RX4, "end", "(I)Z"⟩
def dkwX4_end_1 : List UInt8 := [181, 0, 14, 4, 172]
abbrev dktX4_end_1 : List UInt8 := dkwX4_end_1 ++ []
def dkwX4_end_0 : List UInt8 := [42, 3, 181, 0, 3, 27, 133, 9, 42, 180, 0, 14, 133, 184, 0, 21, 154, 0, 5, 3, 172, 42, 27]
abbrev dktX4_end_0 : List UInt8 := dkwX4_end_0 ++ dktX4_end_1
theorem dksX4_end_0 : cX4_end.data.toList.drop 0 = dktX4_end_0 := by decide +kernel
theorem dksX4_end_1 : cX4_end.data.toList.drop 23 = dktX4_end_1 := dk_seg dksX4_end_0 23 rfl rfl
theorem dX4_end_0 : decode cX4_end 0 = .ok (.aload_n 0, 1) := dk_42 (dk_at dksX4_end_0 0 rfl rfl)
theorem dX4_end_1 : decode cX4_end 1 = .ok (.iconst 0, 1) := dk_3 (dk_at dksX4_end_0 1 rfl rfl)
theorem dX4_end_2 : decode cX4_end 2 = .ok (.putfield 3, 3) := dk_181 0 3 (dk_at dksX4_end_0 2 rfl rfl)
theorem dX4_end_5 : decode cX4_end 5 = .ok (.iload_n 1, 1) := dk_27 (dk_at dksX4_end_0 5 rfl rfl)
theorem dX4_end_6 : decode cX4_end 6 = .ok (.i2l, 1) := dk_133 (dk_at dksX4_end_0 6 rfl rfl)
theorem dX4_end_7 : decode cX4_end 7 = .ok (.lconst 0, 1) := dk_9 (dk_at dksX4_end_0 7 rfl rfl)
theorem dX4_end_8 : decode cX4_end 8 = .ok (.aload_n 0, 1) := dk_42 (dk_at dksX4_end_0 8 rfl rfl)
theorem dX4_end_9 : decode cX4_end 9 = .ok (.getfield 14, 3) := dk_180 0 14 (dk_at dksX4_end_0 9 rfl rfl)
theorem dX4_end_12 : decode cX4_end 12 = .ok (.i2l, 1) := dk_133 (dk_at dksX4_end_0 12 rfl rfl)
theorem dX4_end_13 : decode cX4_end 13 = .ok (.invokestatic 21, 3) := dk_184 0 21 (dk_at dksX4_end_0 13 rfl rfl)
theorem dX4_end_16 : decode cX4_end 16 = .ok (.ifCond .ne 5, 3) := dk_154 0 5 (dk_at dksX4_end_0 16 rfl rfl)
theorem dX4_end_19 : decode cX4_end 19 = .ok (.iconst 0, 1) := dk_3 (dk_at dksX4_end_0 19 rfl rfl)
theorem dX4_end_20 : decode cX4_end 20 = .ok (.ireturn, 1) := dk_172 (dk_at dksX4_end_0 20 rfl rfl)
theorem dX4_end_21 : decode cX4_end 21 = .ok (.aload_n 0, 1) := dk_42 (dk_at dksX4_end_0 21 rfl rfl)
theorem dX4_end_22 : decode cX4_end 22 = .ok (.iload_n 1, 1) := dk_27 (dk_at dksX4_end_0 22 rfl rfl)
theorem dX4_end_23 : decode cX4_end 23 = .ok (.putfield 14, 3) := dk_181 0 14 (dk_at dksX4_end_1 0 rfl rfl)
theorem dX4_end_26 : decode cX4_end 26 = .ok (.iconst 1, 1) := dk_4 (dk_at dksX4_end_1 3 rfl rfl)
theorem dX4_end_27 : decode cX4_end 27 = .ok (.ireturn, 1) := dk_172 (dk_at dksX4_end_1 4 rfl rfl)
abbrev cX4_in : ByteArray := prog_13_method_3_code
def yX4_in : MethodName := ⟨RX4, "in", "(JJJ)Z"⟩
def dkwX4_in_0 : List UInt8 := [30, 32, 148, 155, 0, 14, 30, 22, 4, 148, 157, 0, 7, 4, 167, 0, 4, 3, 172]
abbrev dktX4_in_0 : List UInt8 := dkwX4_in_0 ++ []
theorem dksX4_in_0 : cX4_in.data.toList.drop 0 = dktX4_in_0 := by decide +kernel
theorem dX4_in_0 : decode cX4_in 0 = .ok (.lload_n 0, 1) := dk_30 (dk_at dksX4_in_0 0 rfl rfl)
theorem dX4_in_1 : decode cX4_in 1 = .ok (.lload_n 2, 1) := dk_32 (dk_at dksX4_in_0 1 rfl rfl)
theorem dX4_in_2 : decode cX4_in 2 = .ok (.lcmp, 1) := dk_148 (dk_at dksX4_in_0 2 rfl rfl)
theorem dX4_in_3 : decode cX4_in 3 = .ok (.ifCond .lt 14, 3) := dk_155 0 14 (dk_at dksX4_in_0 3 rfl rfl)
theorem dX4_in_6 : decode cX4_in 6 = .ok (.lload_n 0, 1) := dk_30 (dk_at dksX4_in_0 6 rfl rfl)
theorem dX4_in_7 : decode cX4_in 7 = .ok (.lload 4, 2) := dk_22 4 (dk_at dksX4_in_0 7 rfl rfl)
theorem dX4_in_9 : decode cX4_in 9 = .ok (.lcmp, 1) := dk_148 (dk_at dksX4_in_0 9 rfl rfl)
theorem dX4_in_10 : decode cX4_in 10 = .ok (.ifCond .gt 7, 3) := dk_157 0 7 (dk_at dksX4_in_0 10 rfl rfl)
theorem dX4_in_13 : decode cX4_in 13 = .ok (.iconst 1, 1) := dk_4 (dk_at dksX4_in_0 13 rfl rfl)
theorem dX4_in_14 : decode cX4_in 14 = .ok (.goto 4, 3) := dk_167 0 4 (dk_at dksX4_in_0 14 rfl rfl)
theorem dX4_in_17 : decode cX4_in 17 = .ok (.iconst 0, 1) := dk_3 (dk_at dksX4_in_0 17 rfl rfl)
theorem dX4_in_18 : decode cX4_in 18 = .ok (.ireturn, 1) := dk_172 (dk_at dksX4_in_0 18 rfl rfl)
abbrev cX4_rule : ByteArray := prog_13_method_21_code
def yX4_rule : MethodName := ⟨RX4, "rule", "()I"⟩
def dkwX4_rule_1 : List UInt8 := [182, 0, 114, 27, 172]
abbrev dktX4_rule_1 : List UInt8 := dkwX4_rule_1 ++ []
def dkwX4_rule_0 : List UInt8 := [42, 3, 181, 0, 3, 42, 182, 0, 111, 60, 27, 154, 0, 15, 42, 42, 180, 0, 66, 42, 180, 0, 69]
abbrev dktX4_rule_0 : List UInt8 := dkwX4_rule_0 ++ dktX4_rule_1
theorem dksX4_rule_0 : cX4_rule.data.toList.drop 0 = dktX4_rule_0 := by decide +kernel
theorem dksX4_rule_1 : cX4_rule.data.toList.drop 23 = dktX4_rule_1 := dk_seg dksX4_rule_0 23 rfl rfl
theorem dX4_rule_0 : decode cX4_rule 0 = .ok (.aload_n 0, 1) := dk_42 (dk_at dksX4_rule_0 0 rfl rfl)
theorem dX4_rule_1 : decode cX4_rule 1 = .ok (.iconst 0, 1) := dk_3 (dk_at dksX4_rule_0 1 rfl rfl)
theorem dX4_rule_2 : decode cX4_rule 2 = .ok (.putfield 3, 3) := dk_181 0 3 (dk_at dksX4_rule_0 2 rfl rfl)
theorem dX4_rule_5 : decode cX4_rule 5 = .ok (.aload_n 0, 1) := dk_42 (dk_at dksX4_rule_0 5 rfl rfl)
theorem dX4_rule_6 : decode cX4_rule 6 = .ok (.invokevirtual 111, 3) := dk_182 0 111 (dk_at dksX4_rule_0 6 rfl rfl)
theorem dX4_rule_9 : decode cX4_rule 9 = .ok (.istore_n 1, 1) := dk_60 (dk_at dksX4_rule_0 9 rfl rfl)
theorem dX4_rule_10 : decode cX4_rule 10 = .ok (.iload_n 1, 1) := dk_27 (dk_at dksX4_rule_0 10 rfl rfl)
theorem dX4_rule_11 : decode cX4_rule 11 = .ok (.ifCond .ne 15, 3) := dk_154 0 15 (dk_at dksX4_rule_0 11 rfl rfl)
theorem dX4_rule_14 : decode cX4_rule 14 = .ok (.aload_n 0, 1) := dk_42 (dk_at dksX4_rule_0 14 rfl rfl)
theorem dX4_rule_15 : decode cX4_rule 15 = .ok (.aload_n 0, 1) := dk_42 (dk_at dksX4_rule_0 15 rfl rfl)
theorem dX4_rule_16 : decode cX4_rule 16 = .ok (.getfield 66, 3) := dk_180 0 66 (dk_at dksX4_rule_0 16 rfl rfl)
theorem dX4_rule_19 : decode cX4_rule 19 = .ok (.aload_n 0, 1) := dk_42 (dk_at dksX4_rule_0 19 rfl rfl)
theorem dX4_rule_20 : decode cX4_rule 20 = .ok (.getfield 69, 3) := dk_180 0 69 (dk_at dksX4_rule_0 20 rfl rfl)
theorem dX4_rule_23 : decode cX4_rule 23 = .ok (.invokevirtual 114, 3) := dk_182 0 114 (dk_at dksX4_rule_1 0 rfl rfl)
theorem dX4_rule_26 : decode cX4_rule 26 = .ok (.iload_n 1, 1) := dk_27 (dk_at dksX4_rule_1 3 rfl rfl)
theorem dX4_rule_27 : decode cX4_rule 27 = .ok (.ireturn, 1) := dk_172 (dk_at dksX4_rule_1 4 rfl rfl)
abbrev cX4_readsRule : ByteArray := prog_13_method_19_code
def yX4_readsRule : MethodName := ⟨RX4, "readsRule", "()I"⟩
def dkwX4_readsRule_1 : List UInt8 := [4, 167, 0, 4, 3, 61, 42, 27, 16, 40, 28, 182, 0, 101, 172]
abbrev dktX4_readsRule_1 : List UInt8 := dkwX4_readsRule_1 ++ []
def dkwX4_readsRule_0 : List UInt8 := [42, 16, 40, 182, 0, 98, 60, 42, 3, 181, 0, 69, 27, 153, 0, 11, 42, 3, 182, 0, 89, 153, 0, 7]
abbrev dktX4_readsRule_0 : List UInt8 := dkwX4_readsRule_0 ++ dktX4_readsRule_1
theorem dksX4_readsRule_0 : cX4_readsRule.data.toList.drop 0 = dktX4_readsRule_0 := by decide +kernel
theorem dksX4_readsRule_1 : cX4_readsRule.data.toList.drop 24 = dktX4_readsRule_1 := dk_seg dksX4_readsRule_0 24 rfl rfl
theorem dX4_readsRule_0 : decode cX4_readsRule 0 = .ok (.aload_n 0, 1) := dk_42 (dk_at dksX4_readsRule_0 0 rfl rfl)
theorem dX4_readsRule_1 : decode cX4_readsRule 1 = .ok (.bipush 40, 2) := dk_16 40 (dk_at dksX4_readsRule_0 1 rfl rfl)
theorem dX4_readsRule_3 : decode cX4_readsRule 3 = .ok (.invokevirtual 98, 3) := dk_182 0 98 (dk_at dksX4_readsRule_0 3 rfl rfl)
theorem dX4_readsRule_6 : decode cX4_readsRule 6 = .ok (.istore_n 1, 1) := dk_60 (dk_at dksX4_readsRule_0 6 rfl rfl)
theorem dX4_readsRule_7 : decode cX4_readsRule 7 = .ok (.aload_n 0, 1) := dk_42 (dk_at dksX4_readsRule_0 7 rfl rfl)
theorem dX4_readsRule_8 : decode cX4_readsRule 8 = .ok (.iconst 0, 1) := dk_3 (dk_at dksX4_readsRule_0 8 rfl rfl)
theorem dX4_readsRule_9 : decode cX4_readsRule 9 = .ok (.putfield 69, 3) := dk_181 0 69 (dk_at dksX4_readsRule_0 9 rfl rfl)
theorem dX4_readsRule_12 : decode cX4_readsRule 12 = .ok (.iload_n 1, 1) := dk_27 (dk_at dksX4_readsRule_0 12 rfl rfl)
theorem dX4_readsRule_13 : decode cX4_readsRule 13 = .ok (.ifCond .eq 11, 3) := dk_153 0 11 (dk_at dksX4_readsRule_0 13 rfl rfl)
theorem dX4_readsRule_16 : decode cX4_readsRule 16 = .ok (.aload_n 0, 1) := dk_42 (dk_at dksX4_readsRule_0 16 rfl rfl)
theorem dX4_readsRule_17 : decode cX4_readsRule 17 = .ok (.iconst 0, 1) := dk_3 (dk_at dksX4_readsRule_0 17 rfl rfl)
theorem dX4_readsRule_18 : decode cX4_readsRule 18 = .ok (.invokevirtual 89, 3) := dk_182 0 89 (dk_at dksX4_readsRule_0 18 rfl rfl)
theorem dX4_readsRule_21 : decode cX4_readsRule 21 = .ok (.ifCond .eq 7, 3) := dk_153 0 7 (dk_at dksX4_readsRule_0 21 rfl rfl)
theorem dX4_readsRule_24 : decode cX4_readsRule 24 = .ok (.iconst 1, 1) := dk_4 (dk_at dksX4_readsRule_1 0 rfl rfl)
theorem dX4_readsRule_25 : decode cX4_readsRule 25 = .ok (.goto 4, 3) := dk_167 0 4 (dk_at dksX4_readsRule_1 1 rfl rfl)
theorem dX4_readsRule_28 : decode cX4_readsRule 28 = .ok (.iconst 0, 1) := dk_3 (dk_at dksX4_readsRule_1 4 rfl rfl)
theorem dX4_readsRule_29 : decode cX4_readsRule 29 = .ok (.istore_n 2, 1) := dk_61 (dk_at dksX4_readsRule_1 5 rfl rfl)
theorem dX4_readsRule_30 : decode cX4_readsRule 30 = .ok (.aload_n 0, 1) := dk_42 (dk_at dksX4_readsRule_1 6 rfl rfl)
theorem dX4_readsRule_31 : decode cX4_readsRule 31 = .ok (.iload_n 1, 1) := dk_27 (dk_at dksX4_readsRule_1 7 rfl rfl)
theorem dX4_readsRule_32 : decode cX4_readsRule 32 = .ok (.bipush 40, 2) := dk_16 40 (dk_at dksX4_readsRule_1 8 rfl rfl)
theorem dX4_readsRule_34 : decode cX4_readsRule 34 = .ok (.iload_n 2, 1) := dk_28 (dk_at dksX4_readsRule_1 10 rfl rfl)
theorem dX4_readsRule_35 : decode cX4_readsRule 35 = .ok (.invokevirtual 101, 3) := dk_182 0 101 (dk_at dksX4_readsRule_1 11 rfl rfl)
theorem dX4_readsRule_38 : decode cX4_readsRule 38 = .ok (.ireturn, 1) := dk_172 (dk_at dksX4_readsRule_1 14 rfl rfl)
abbrev cX4_begins : ByteArray := prog_13_method_8_code
def yX4_begins : MethodName := ⟨RX4, "begins", "(I)I"⟩
def dkwX4_begins_1 : List UInt8 := [184, 0, 31, 181, 0, 37, 28, 172]
abbrev dktX4_begins_1 : List UInt8 := dkwX4_begins_1 ++ []
def dkwX4_begins_0 : List UInt8 := [42, 180, 0, 14, 61, 42, 3, 181, 0, 14, 42, 3, 181, 0, 25, 42, 3, 181, 0, 28, 42, 28, 27]
abbrev dktX4_begins_0 : List UInt8 := dkwX4_begins_0 ++ dktX4_begins_1
theorem dksX4_begins_0 : cX4_begins.data.toList.drop 0 = dktX4_begins_0 := by decide +kernel
theorem dksX4_begins_1 : cX4_begins.data.toList.drop 23 = dktX4_begins_1 := dk_seg dksX4_begins_0 23 rfl rfl
theorem dX4_begins_0 : decode cX4_begins 0 = .ok (.aload_n 0, 1) := dk_42 (dk_at dksX4_begins_0 0 rfl rfl)
theorem dX4_begins_1 : decode cX4_begins 1 = .ok (.getfield 14, 3) := dk_180 0 14 (dk_at dksX4_begins_0 1 rfl rfl)
theorem dX4_begins_4 : decode cX4_begins 4 = .ok (.istore_n 2, 1) := dk_61 (dk_at dksX4_begins_0 4 rfl rfl)
theorem dX4_begins_5 : decode cX4_begins 5 = .ok (.aload_n 0, 1) := dk_42 (dk_at dksX4_begins_0 5 rfl rfl)
theorem dX4_begins_6 : decode cX4_begins 6 = .ok (.iconst 0, 1) := dk_3 (dk_at dksX4_begins_0 6 rfl rfl)
theorem dX4_begins_7 : decode cX4_begins 7 = .ok (.putfield 14, 3) := dk_181 0 14 (dk_at dksX4_begins_0 7 rfl rfl)
theorem dX4_begins_10 : decode cX4_begins 10 = .ok (.aload_n 0, 1) := dk_42 (dk_at dksX4_begins_0 10 rfl rfl)
theorem dX4_begins_11 : decode cX4_begins 11 = .ok (.iconst 0, 1) := dk_3 (dk_at dksX4_begins_0 11 rfl rfl)
theorem dX4_begins_12 : decode cX4_begins 12 = .ok (.putfield 25, 3) := dk_181 0 25 (dk_at dksX4_begins_0 12 rfl rfl)
theorem dX4_begins_15 : decode cX4_begins 15 = .ok (.aload_n 0, 1) := dk_42 (dk_at dksX4_begins_0 15 rfl rfl)
theorem dX4_begins_16 : decode cX4_begins 16 = .ok (.iconst 0, 1) := dk_3 (dk_at dksX4_begins_0 16 rfl rfl)
theorem dX4_begins_17 : decode cX4_begins 17 = .ok (.putfield 28, 3) := dk_181 0 28 (dk_at dksX4_begins_0 17 rfl rfl)
theorem dX4_begins_20 : decode cX4_begins 20 = .ok (.aload_n 0, 1) := dk_42 (dk_at dksX4_begins_0 20 rfl rfl)
theorem dX4_begins_21 : decode cX4_begins 21 = .ok (.iload_n 2, 1) := dk_28 (dk_at dksX4_begins_0 21 rfl rfl)
theorem dX4_begins_22 : decode cX4_begins 22 = .ok (.iload_n 1, 1) := dk_27 (dk_at dksX4_begins_0 22 rfl rfl)
theorem dX4_begins_23 : decode cX4_begins 23 = .ok (.invokestatic 31, 3) := dk_184 0 31 (dk_at dksX4_begins_1 0 rfl rfl)
theorem dX4_begins_26 : decode cX4_begins 26 = .ok (.putfield 37, 3) := dk_181 0 37 (dk_at dksX4_begins_1 3 rfl rfl)
theorem dX4_begins_29 : decode cX4_begins 29 = .ok (.iload_n 2, 1) := dk_28 (dk_at dksX4_begins_1 6 rfl rfl)
theorem dX4_begins_30 : decode cX4_begins 30 = .ok (.ireturn, 1) := dk_172 (dk_at dksX4_begins_1 7 rfl rfl)
abbrev cX4_readsRank : ByteArray := prog_13_method_18_code
def yX4_readsRank : MethodName := ⟨RX4, "readsRank", "(I)Z"⟩
def dkwX4_readsRank_4 : List UInt8 := [96, 182, 0, 79, 27, 158, 0, 7, 4, 167, 0, 4, 3, 61, 167, 255, 170, 4, 172]
abbrev dktX4_readsRank_4 : List UInt8 := dkwX4_readsRank_4 ++ []
def dkwX4_readsRank_3 : List UInt8 := [42, 17, 7, 208, 29, 96, 27, 154, 0, 7, 3, 167, 0, 13, 27, 4, 160, 0, 7, 6, 167, 0, 4, 8]
abbrev dktX4_readsRank_3 : List UInt8 := dkwX4_readsRank_3 ++ dktX4_readsRank_4
def dkwX4_readsRank_2 : List UInt8 := [18, 96, 182, 0, 85, 62, 29, 156, 0, 5, 4, 172, 42, 27, 4, 96, 182, 0, 89, 154, 0, 5, 3, 172]
abbrev dktX4_readsRank_2 : List UInt8 := dkwX4_readsRank_2 ++ dktX4_readsRank_3
def dkwX4_readsRank_1 : List UInt8 := [28, 153, 0, 88, 42, 27, 154, 0, 8, 18, 92, 167, 0, 15, 27, 4, 160, 0, 8, 18, 94, 167, 0, 5]
abbrev dktX4_readsRank_1 : List UInt8 := dkwX4_readsRank_1 ++ dktX4_readsRank_2
def dkwX4_readsRank_0 : List UInt8 := [27, 6, 160, 0, 8, 42, 182, 0, 76, 172, 42, 27, 4, 96, 182, 0, 89, 154, 0, 5, 3, 172, 4, 61]
abbrev dktX4_readsRank_0 : List UInt8 := dkwX4_readsRank_0 ++ dktX4_readsRank_1
theorem dksX4_readsRank_0 : cX4_readsRank.data.toList.drop 0 = dktX4_readsRank_0 := by decide +kernel
theorem dksX4_readsRank_1 : cX4_readsRank.data.toList.drop 24 = dktX4_readsRank_1 := dk_seg dksX4_readsRank_0 24 rfl rfl
theorem dksX4_readsRank_2 : cX4_readsRank.data.toList.drop 48 = dktX4_readsRank_2 := dk_seg dksX4_readsRank_1 24 rfl rfl
theorem dksX4_readsRank_3 : cX4_readsRank.data.toList.drop 72 = dktX4_readsRank_3 := dk_seg dksX4_readsRank_2 24 rfl rfl
theorem dksX4_readsRank_4 : cX4_readsRank.data.toList.drop 96 = dktX4_readsRank_4 := dk_seg dksX4_readsRank_3 24 rfl rfl
theorem dX4_readsRank_0 : decode cX4_readsRank 0 = .ok (.iload_n 1, 1) := dk_27 (dk_at dksX4_readsRank_0 0 rfl rfl)
theorem dX4_readsRank_1 : decode cX4_readsRank 1 = .ok (.iconst 3, 1) := dk_6 (dk_at dksX4_readsRank_0 1 rfl rfl)
theorem dX4_readsRank_2 : decode cX4_readsRank 2 = .ok (.if_icmp .ne 8, 3) := dk_160 0 8 (dk_at dksX4_readsRank_0 2 rfl rfl)
theorem dX4_readsRank_5 : decode cX4_readsRank 5 = .ok (.aload_n 0, 1) := dk_42 (dk_at dksX4_readsRank_0 5 rfl rfl)
theorem dX4_readsRank_6 : decode cX4_readsRank 6 = .ok (.invokevirtual 76, 3) := dk_182 0 76 (dk_at dksX4_readsRank_0 6 rfl rfl)
theorem dX4_readsRank_9 : decode cX4_readsRank 9 = .ok (.ireturn, 1) := dk_172 (dk_at dksX4_readsRank_0 9 rfl rfl)
theorem dX4_readsRank_10 : decode cX4_readsRank 10 = .ok (.aload_n 0, 1) := dk_42 (dk_at dksX4_readsRank_0 10 rfl rfl)
theorem dX4_readsRank_11 : decode cX4_readsRank 11 = .ok (.iload_n 1, 1) := dk_27 (dk_at dksX4_readsRank_0 11 rfl rfl)
theorem dX4_readsRank_12 : decode cX4_readsRank 12 = .ok (.iconst 1, 1) := dk_4 (dk_at dksX4_readsRank_0 12 rfl rfl)
theorem dX4_readsRank_13 : decode cX4_readsRank 13 = .ok (.iadd, 1) := dk_96 (dk_at dksX4_readsRank_0 13 rfl rfl)
theorem dX4_readsRank_14 : decode cX4_readsRank 14 = .ok (.invokevirtual 89, 3) := dk_182 0 89 (dk_at dksX4_readsRank_0 14 rfl rfl)
theorem dX4_readsRank_17 : decode cX4_readsRank 17 = .ok (.ifCond .ne 5, 3) := dk_154 0 5 (dk_at dksX4_readsRank_0 17 rfl rfl)
theorem dX4_readsRank_20 : decode cX4_readsRank 20 = .ok (.iconst 0, 1) := dk_3 (dk_at dksX4_readsRank_0 20 rfl rfl)
theorem dX4_readsRank_21 : decode cX4_readsRank 21 = .ok (.ireturn, 1) := dk_172 (dk_at dksX4_readsRank_0 21 rfl rfl)
theorem dX4_readsRank_22 : decode cX4_readsRank 22 = .ok (.iconst 1, 1) := dk_4 (dk_at dksX4_readsRank_0 22 rfl rfl)
theorem dX4_readsRank_23 : decode cX4_readsRank 23 = .ok (.istore_n 2, 1) := dk_61 (dk_at dksX4_readsRank_0 23 rfl rfl)
theorem dX4_readsRank_24 : decode cX4_readsRank 24 = .ok (.iload_n 2, 1) := dk_28 (dk_at dksX4_readsRank_1 0 rfl rfl)
theorem dX4_readsRank_25 : decode cX4_readsRank 25 = .ok (.ifCond .eq 88, 3) := dk_153 0 88 (dk_at dksX4_readsRank_1 1 rfl rfl)
theorem dX4_readsRank_28 : decode cX4_readsRank 28 = .ok (.aload_n 0, 1) := dk_42 (dk_at dksX4_readsRank_1 4 rfl rfl)
theorem dX4_readsRank_29 : decode cX4_readsRank 29 = .ok (.iload_n 1, 1) := dk_27 (dk_at dksX4_readsRank_1 5 rfl rfl)
theorem dX4_readsRank_30 : decode cX4_readsRank 30 = .ok (.ifCond .ne 8, 3) := dk_154 0 8 (dk_at dksX4_readsRank_1 6 rfl rfl)
theorem dX4_readsRank_33 : decode cX4_readsRank 33 = .ok (.ldc 92, 2) := dk_18 92 (dk_at dksX4_readsRank_1 9 rfl rfl)
theorem dX4_readsRank_35 : decode cX4_readsRank 35 = .ok (.goto 15, 3) := dk_167 0 15 (dk_at dksX4_readsRank_1 11 rfl rfl)
theorem dX4_readsRank_38 : decode cX4_readsRank 38 = .ok (.iload_n 1, 1) := dk_27 (dk_at dksX4_readsRank_1 14 rfl rfl)
theorem dX4_readsRank_39 : decode cX4_readsRank 39 = .ok (.iconst 1, 1) := dk_4 (dk_at dksX4_readsRank_1 15 rfl rfl)
theorem dX4_readsRank_40 : decode cX4_readsRank 40 = .ok (.if_icmp .ne 8, 3) := dk_160 0 8 (dk_at dksX4_readsRank_1 16 rfl rfl)
theorem dX4_readsRank_43 : decode cX4_readsRank 43 = .ok (.ldc 94, 2) := dk_18 94 (dk_at dksX4_readsRank_1 19 rfl rfl)
theorem dX4_readsRank_45 : decode cX4_readsRank 45 = .ok (.goto 5, 3) := dk_167 0 5 (dk_at dksX4_readsRank_1 21 rfl rfl)
theorem dX4_readsRank_48 : decode cX4_readsRank 48 = .ok (.ldc 96, 2) := dk_18 96 (dk_at dksX4_readsRank_2 0 rfl rfl)
theorem dX4_readsRank_50 : decode cX4_readsRank 50 = .ok (.invokevirtual 85, 3) := dk_182 0 85 (dk_at dksX4_readsRank_2 2 rfl rfl)
theorem dX4_readsRank_53 : decode cX4_readsRank 53 = .ok (.istore_n 3, 1) := dk_62 (dk_at dksX4_readsRank_2 5 rfl rfl)
theorem dX4_readsRank_54 : decode cX4_readsRank 54 = .ok (.iload_n 3, 1) := dk_29 (dk_at dksX4_readsRank_2 6 rfl rfl)
theorem dX4_readsRank_55 : decode cX4_readsRank 55 = .ok (.ifCond .ge 5, 3) := dk_156 0 5 (dk_at dksX4_readsRank_2 7 rfl rfl)
theorem dX4_readsRank_58 : decode cX4_readsRank 58 = .ok (.iconst 1, 1) := dk_4 (dk_at dksX4_readsRank_2 10 rfl rfl)
theorem dX4_readsRank_59 : decode cX4_readsRank 59 = .ok (.ireturn, 1) := dk_172 (dk_at dksX4_readsRank_2 11 rfl rfl)
theorem dX4_readsRank_60 : decode cX4_readsRank 60 = .ok (.aload_n 0, 1) := dk_42 (dk_at dksX4_readsRank_2 12 rfl rfl)
theorem dX4_readsRank_61 : decode cX4_readsRank 61 = .ok (.iload_n 1, 1) := dk_27 (dk_at dksX4_readsRank_2 13 rfl rfl)
theorem dX4_readsRank_62 : decode cX4_readsRank 62 = .ok (.iconst 1, 1) := dk_4 (dk_at dksX4_readsRank_2 14 rfl rfl)
theorem dX4_readsRank_63 : decode cX4_readsRank 63 = .ok (.iadd, 1) := dk_96 (dk_at dksX4_readsRank_2 15 rfl rfl)
theorem dX4_readsRank_64 : decode cX4_readsRank 64 = .ok (.invokevirtual 89, 3) := dk_182 0 89 (dk_at dksX4_readsRank_2 16 rfl rfl)
theorem dX4_readsRank_67 : decode cX4_readsRank 67 = .ok (.ifCond .ne 5, 3) := dk_154 0 5 (dk_at dksX4_readsRank_2 19 rfl rfl)
theorem dX4_readsRank_70 : decode cX4_readsRank 70 = .ok (.iconst 0, 1) := dk_3 (dk_at dksX4_readsRank_2 22 rfl rfl)
theorem dX4_readsRank_71 : decode cX4_readsRank 71 = .ok (.ireturn, 1) := dk_172 (dk_at dksX4_readsRank_2 23 rfl rfl)
theorem dX4_readsRank_72 : decode cX4_readsRank 72 = .ok (.aload_n 0, 1) := dk_42 (dk_at dksX4_readsRank_3 0 rfl rfl)
theorem dX4_readsRank_73 : decode cX4_readsRank 73 = .ok (.sipush 2000, 3) := dk_17 7 208 (dk_at dksX4_readsRank_3 1 rfl rfl)
theorem dX4_readsRank_76 : decode cX4_readsRank 76 = .ok (.iload_n 3, 1) := dk_29 (dk_at dksX4_readsRank_3 4 rfl rfl)
theorem dX4_readsRank_77 : decode cX4_readsRank 77 = .ok (.iadd, 1) := dk_96 (dk_at dksX4_readsRank_3 5 rfl rfl)
theorem dX4_readsRank_78 : decode cX4_readsRank 78 = .ok (.iload_n 1, 1) := dk_27 (dk_at dksX4_readsRank_3 6 rfl rfl)
theorem dX4_readsRank_79 : decode cX4_readsRank 79 = .ok (.ifCond .ne 7, 3) := dk_154 0 7 (dk_at dksX4_readsRank_3 7 rfl rfl)
theorem dX4_readsRank_82 : decode cX4_readsRank 82 = .ok (.iconst 0, 1) := dk_3 (dk_at dksX4_readsRank_3 10 rfl rfl)
theorem dX4_readsRank_83 : decode cX4_readsRank 83 = .ok (.goto 13, 3) := dk_167 0 13 (dk_at dksX4_readsRank_3 11 rfl rfl)
theorem dX4_readsRank_86 : decode cX4_readsRank 86 = .ok (.iload_n 1, 1) := dk_27 (dk_at dksX4_readsRank_3 14 rfl rfl)
theorem dX4_readsRank_87 : decode cX4_readsRank 87 = .ok (.iconst 1, 1) := dk_4 (dk_at dksX4_readsRank_3 15 rfl rfl)
theorem dX4_readsRank_88 : decode cX4_readsRank 88 = .ok (.if_icmp .ne 7, 3) := dk_160 0 7 (dk_at dksX4_readsRank_3 16 rfl rfl)
theorem dX4_readsRank_91 : decode cX4_readsRank 91 = .ok (.iconst 3, 1) := dk_6 (dk_at dksX4_readsRank_3 19 rfl rfl)
theorem dX4_readsRank_92 : decode cX4_readsRank 92 = .ok (.goto 4, 3) := dk_167 0 4 (dk_at dksX4_readsRank_3 20 rfl rfl)
theorem dX4_readsRank_95 : decode cX4_readsRank 95 = .ok (.iconst 5, 1) := dk_8 (dk_at dksX4_readsRank_3 23 rfl rfl)
theorem dX4_readsRank_96 : decode cX4_readsRank 96 = .ok (.iadd, 1) := dk_96 (dk_at dksX4_readsRank_4 0 rfl rfl)
theorem dX4_readsRank_97 : decode cX4_readsRank 97 = .ok (.invokevirtual 79, 3) := dk_182 0 79 (dk_at dksX4_readsRank_4 1 rfl rfl)
theorem dX4_readsRank_100 : decode cX4_readsRank 100 = .ok (.iload_n 1, 1) := dk_27 (dk_at dksX4_readsRank_4 4 rfl rfl)
theorem dX4_readsRank_101 : decode cX4_readsRank 101 = .ok (.ifCond .le 7, 3) := dk_158 0 7 (dk_at dksX4_readsRank_4 5 rfl rfl)
theorem dX4_readsRank_104 : decode cX4_readsRank 104 = .ok (.iconst 1, 1) := dk_4 (dk_at dksX4_readsRank_4 8 rfl rfl)
theorem dX4_readsRank_105 : decode cX4_readsRank 105 = .ok (.goto 4, 3) := dk_167 0 4 (dk_at dksX4_readsRank_4 9 rfl rfl)
theorem dX4_readsRank_108 : decode cX4_readsRank 108 = .ok (.iconst 0, 1) := dk_3 (dk_at dksX4_readsRank_4 12 rfl rfl)
theorem dX4_readsRank_109 : decode cX4_readsRank 109 = .ok (.istore_n 2, 1) := dk_61 (dk_at dksX4_readsRank_4 13 rfl rfl)
theorem dX4_readsRank_110 : decode cX4_readsRank 110 = .ok (.goto (-86), 3) := dk_167 255 170 (dk_at dksX4_readsRank_4 14 rfl rfl)
theorem dX4_readsRank_113 : decode cX4_readsRank 113 = .ok (.iconst 1, 1) := dk_4 (dk_at dksX4_readsRank_4 17 rfl rfl)
theorem dX4_readsRank_114 : decode cX4_readsRank 114 = .ok (.ireturn, 1) := dk_172 (dk_at dksX4_readsRank_4 18 rfl rfl)
abbrev cX4_readsThing : ByteArray := prog_13_method_17_code
def yX4_readsThing : MethodName := ⟨RX4, "readsThing", "()Z"⟩
def dkwX4_readsThing_5 : List UInt8 := [181, 0, 28, 4, 172]
abbrev dktX4_readsThing_5 : List UInt8 := dkwX4_readsThing_5 ++ []
def dkwX4_readsThing_4 : List UInt8 := [182, 0, 89, 153, 0, 12, 42, 16, 41, 182, 0, 72, 154, 0, 5, 3, 172, 42, 89, 180, 0, 28, 4, 100]
abbrev dktX4_readsThing_4 : List UInt8 := dkwX4_readsThing_4 ++ dktX4_readsThing_5
def dkwX4_readsThing_3 : List UInt8 := [16, 40, 182, 0, 72, 154, 0, 5, 3, 172, 42, 89, 180, 0, 28, 4, 96, 181, 0, 28, 42, 3]
abbrev dktX4_readsThing_3 : List UInt8 := dkwX4_readsThing_3 ++ dktX4_readsThing_4
def dkwX4_readsThing_2 : List UInt8 := [27, 155, 0, 14, 42, 17, 3, 232, 27, 96, 182, 0, 79, 4, 172, 42, 180, 0, 28, 7, 159, 0, 12, 42]
abbrev dktX4_readsThing_2 : List UInt8 := dkwX4_readsThing_2 ++ dktX4_readsThing_3
def dkwX4_readsThing_1 : List UInt8 := [182, 0, 58, 153, 0, 14, 42, 42, 6, 182, 0, 62, 182, 0, 79, 4, 172, 42, 18, 83, 182, 0, 85, 60]
abbrev dktX4_readsThing_1 : List UInt8 := dkwX4_readsThing_1 ++ dktX4_readsThing_2
def dkwX4_readsThing_0 : List UInt8 := [42, 16, 45, 182, 0, 72, 153, 0, 17, 42, 182, 0, 76, 60, 42, 17, 11, 184, 182, 0, 79, 27, 172, 42]
abbrev dktX4_readsThing_0 : List UInt8 := dkwX4_readsThing_0 ++ dktX4_readsThing_1
theorem dksX4_readsThing_0 : cX4_readsThing.data.toList.drop 0 = dktX4_readsThing_0 := by decide +kernel
theorem dksX4_readsThing_1 : cX4_readsThing.data.toList.drop 24 = dktX4_readsThing_1 := dk_seg dksX4_readsThing_0 24 rfl rfl
theorem dksX4_readsThing_2 : cX4_readsThing.data.toList.drop 48 = dktX4_readsThing_2 := dk_seg dksX4_readsThing_1 24 rfl rfl
theorem dksX4_readsThing_3 : cX4_readsThing.data.toList.drop 72 = dktX4_readsThing_3 := dk_seg dksX4_readsThing_2 24 rfl rfl
theorem dksX4_readsThing_4 : cX4_readsThing.data.toList.drop 94 = dktX4_readsThing_4 := dk_seg dksX4_readsThing_3 22 rfl rfl
theorem dksX4_readsThing_5 : cX4_readsThing.data.toList.drop 118 = dktX4_readsThing_5 := dk_seg dksX4_readsThing_4 24 rfl rfl
theorem dX4_readsThing_0 : decode cX4_readsThing 0 = .ok (.aload_n 0, 1) := dk_42 (dk_at dksX4_readsThing_0 0 rfl rfl)
theorem dX4_readsThing_1 : decode cX4_readsThing 1 = .ok (.bipush 45, 2) := dk_16 45 (dk_at dksX4_readsThing_0 1 rfl rfl)
theorem dX4_readsThing_3 : decode cX4_readsThing 3 = .ok (.invokevirtual 72, 3) := dk_182 0 72 (dk_at dksX4_readsThing_0 3 rfl rfl)
theorem dX4_readsThing_6 : decode cX4_readsThing 6 = .ok (.ifCond .eq 17, 3) := dk_153 0 17 (dk_at dksX4_readsThing_0 6 rfl rfl)
theorem dX4_readsThing_9 : decode cX4_readsThing 9 = .ok (.aload_n 0, 1) := dk_42 (dk_at dksX4_readsThing_0 9 rfl rfl)
theorem dX4_readsThing_10 : decode cX4_readsThing 10 = .ok (.invokevirtual 76, 3) := dk_182 0 76 (dk_at dksX4_readsThing_0 10 rfl rfl)
theorem dX4_readsThing_13 : decode cX4_readsThing 13 = .ok (.istore_n 1, 1) := dk_60 (dk_at dksX4_readsThing_0 13 rfl rfl)
theorem dX4_readsThing_14 : decode cX4_readsThing 14 = .ok (.aload_n 0, 1) := dk_42 (dk_at dksX4_readsThing_0 14 rfl rfl)
theorem dX4_readsThing_15 : decode cX4_readsThing 15 = .ok (.sipush 3000, 3) := dk_17 11 184 (dk_at dksX4_readsThing_0 15 rfl rfl)
theorem dX4_readsThing_18 : decode cX4_readsThing 18 = .ok (.invokevirtual 79, 3) := dk_182 0 79 (dk_at dksX4_readsThing_0 18 rfl rfl)
theorem dX4_readsThing_21 : decode cX4_readsThing 21 = .ok (.iload_n 1, 1) := dk_27 (dk_at dksX4_readsThing_0 21 rfl rfl)
theorem dX4_readsThing_22 : decode cX4_readsThing 22 = .ok (.ireturn, 1) := dk_172 (dk_at dksX4_readsThing_0 22 rfl rfl)
theorem dX4_readsThing_23 : decode cX4_readsThing 23 = .ok (.aload_n 0, 1) := dk_42 (dk_at dksX4_readsThing_0 23 rfl rfl)
theorem dX4_readsThing_24 : decode cX4_readsThing 24 = .ok (.invokevirtual 58, 3) := dk_182 0 58 (dk_at dksX4_readsThing_1 0 rfl rfl)
theorem dX4_readsThing_27 : decode cX4_readsThing 27 = .ok (.ifCond .eq 14, 3) := dk_153 0 14 (dk_at dksX4_readsThing_1 3 rfl rfl)
theorem dX4_readsThing_30 : decode cX4_readsThing 30 = .ok (.aload_n 0, 1) := dk_42 (dk_at dksX4_readsThing_1 6 rfl rfl)
theorem dX4_readsThing_31 : decode cX4_readsThing 31 = .ok (.aload_n 0, 1) := dk_42 (dk_at dksX4_readsThing_1 7 rfl rfl)
theorem dX4_readsThing_32 : decode cX4_readsThing 32 = .ok (.iconst 3, 1) := dk_6 (dk_at dksX4_readsThing_1 8 rfl rfl)
theorem dX4_readsThing_33 : decode cX4_readsThing 33 = .ok (.invokevirtual 62, 3) := dk_182 0 62 (dk_at dksX4_readsThing_1 9 rfl rfl)
theorem dX4_readsThing_36 : decode cX4_readsThing 36 = .ok (.invokevirtual 79, 3) := dk_182 0 79 (dk_at dksX4_readsThing_1 12 rfl rfl)
theorem dX4_readsThing_39 : decode cX4_readsThing 39 = .ok (.iconst 1, 1) := dk_4 (dk_at dksX4_readsThing_1 15 rfl rfl)
theorem dX4_readsThing_40 : decode cX4_readsThing 40 = .ok (.ireturn, 1) := dk_172 (dk_at dksX4_readsThing_1 16 rfl rfl)
theorem dX4_readsThing_41 : decode cX4_readsThing 41 = .ok (.aload_n 0, 1) := dk_42 (dk_at dksX4_readsThing_1 17 rfl rfl)
theorem dX4_readsThing_42 : decode cX4_readsThing 42 = .ok (.ldc 83, 2) := dk_18 83 (dk_at dksX4_readsThing_1 18 rfl rfl)
theorem dX4_readsThing_44 : decode cX4_readsThing 44 = .ok (.invokevirtual 85, 3) := dk_182 0 85 (dk_at dksX4_readsThing_1 20 rfl rfl)
theorem dX4_readsThing_47 : decode cX4_readsThing 47 = .ok (.istore_n 1, 1) := dk_60 (dk_at dksX4_readsThing_1 23 rfl rfl)
theorem dX4_readsThing_48 : decode cX4_readsThing 48 = .ok (.iload_n 1, 1) := dk_27 (dk_at dksX4_readsThing_2 0 rfl rfl)
theorem dX4_readsThing_49 : decode cX4_readsThing 49 = .ok (.ifCond .lt 14, 3) := dk_155 0 14 (dk_at dksX4_readsThing_2 1 rfl rfl)
theorem dX4_readsThing_52 : decode cX4_readsThing 52 = .ok (.aload_n 0, 1) := dk_42 (dk_at dksX4_readsThing_2 4 rfl rfl)
theorem dX4_readsThing_53 : decode cX4_readsThing 53 = .ok (.sipush 1000, 3) := dk_17 3 232 (dk_at dksX4_readsThing_2 5 rfl rfl)
theorem dX4_readsThing_56 : decode cX4_readsThing 56 = .ok (.iload_n 1, 1) := dk_27 (dk_at dksX4_readsThing_2 8 rfl rfl)
theorem dX4_readsThing_57 : decode cX4_readsThing 57 = .ok (.iadd, 1) := dk_96 (dk_at dksX4_readsThing_2 9 rfl rfl)
theorem dX4_readsThing_58 : decode cX4_readsThing 58 = .ok (.invokevirtual 79, 3) := dk_182 0 79 (dk_at dksX4_readsThing_2 10 rfl rfl)
theorem dX4_readsThing_61 : decode cX4_readsThing 61 = .ok (.iconst 1, 1) := dk_4 (dk_at dksX4_readsThing_2 13 rfl rfl)
theorem dX4_readsThing_62 : decode cX4_readsThing 62 = .ok (.ireturn, 1) := dk_172 (dk_at dksX4_readsThing_2 14 rfl rfl)
theorem dX4_readsThing_63 : decode cX4_readsThing 63 = .ok (.aload_n 0, 1) := dk_42 (dk_at dksX4_readsThing_2 15 rfl rfl)
theorem dX4_readsThing_64 : decode cX4_readsThing 64 = .ok (.getfield 28, 3) := dk_180 0 28 (dk_at dksX4_readsThing_2 16 rfl rfl)
theorem dX4_readsThing_67 : decode cX4_readsThing 67 = .ok (.iconst 4, 1) := dk_7 (dk_at dksX4_readsThing_2 19 rfl rfl)
theorem dX4_readsThing_68 : decode cX4_readsThing 68 = .ok (.if_icmp .eq 12, 3) := dk_159 0 12 (dk_at dksX4_readsThing_2 20 rfl rfl)
theorem dX4_readsThing_71 : decode cX4_readsThing 71 = .ok (.aload_n 0, 1) := dk_42 (dk_at dksX4_readsThing_2 23 rfl rfl)
theorem dX4_readsThing_72 : decode cX4_readsThing 72 = .ok (.bipush 40, 2) := dk_16 40 (dk_at dksX4_readsThing_3 0 rfl rfl)
theorem dX4_readsThing_74 : decode cX4_readsThing 74 = .ok (.invokevirtual 72, 3) := dk_182 0 72 (dk_at dksX4_readsThing_3 2 rfl rfl)
theorem dX4_readsThing_77 : decode cX4_readsThing 77 = .ok (.ifCond .ne 5, 3) := dk_154 0 5 (dk_at dksX4_readsThing_3 5 rfl rfl)
theorem dX4_readsThing_80 : decode cX4_readsThing 80 = .ok (.iconst 0, 1) := dk_3 (dk_at dksX4_readsThing_3 8 rfl rfl)
theorem dX4_readsThing_81 : decode cX4_readsThing 81 = .ok (.ireturn, 1) := dk_172 (dk_at dksX4_readsThing_3 9 rfl rfl)
theorem dX4_readsThing_82 : decode cX4_readsThing 82 = .ok (.aload_n 0, 1) := dk_42 (dk_at dksX4_readsThing_3 10 rfl rfl)
theorem dX4_readsThing_83 : decode cX4_readsThing 83 = .ok (.dup, 1) := dk_89 (dk_at dksX4_readsThing_3 11 rfl rfl)
theorem dX4_readsThing_84 : decode cX4_readsThing 84 = .ok (.getfield 28, 3) := dk_180 0 28 (dk_at dksX4_readsThing_3 12 rfl rfl)
theorem dX4_readsThing_87 : decode cX4_readsThing 87 = .ok (.iconst 1, 1) := dk_4 (dk_at dksX4_readsThing_3 15 rfl rfl)
theorem dX4_readsThing_88 : decode cX4_readsThing 88 = .ok (.iadd, 1) := dk_96 (dk_at dksX4_readsThing_3 16 rfl rfl)
theorem dX4_readsThing_89 : decode cX4_readsThing 89 = .ok (.putfield 28, 3) := dk_181 0 28 (dk_at dksX4_readsThing_3 17 rfl rfl)
theorem dX4_readsThing_92 : decode cX4_readsThing 92 = .ok (.aload_n 0, 1) := dk_42 (dk_at dksX4_readsThing_3 20 rfl rfl)
theorem dX4_readsThing_93 : decode cX4_readsThing 93 = .ok (.iconst 0, 1) := dk_3 (dk_at dksX4_readsThing_3 21 rfl rfl)
theorem dX4_readsThing_94 : decode cX4_readsThing 94 = .ok (.invokevirtual 89, 3) := dk_182 0 89 (dk_at dksX4_readsThing_4 0 rfl rfl)
theorem dX4_readsThing_97 : decode cX4_readsThing 97 = .ok (.ifCond .eq 12, 3) := dk_153 0 12 (dk_at dksX4_readsThing_4 3 rfl rfl)
theorem dX4_readsThing_100 : decode cX4_readsThing 100 = .ok (.aload_n 0, 1) := dk_42 (dk_at dksX4_readsThing_4 6 rfl rfl)
theorem dX4_readsThing_101 : decode cX4_readsThing 101 = .ok (.bipush 41, 2) := dk_16 41 (dk_at dksX4_readsThing_4 7 rfl rfl)
theorem dX4_readsThing_103 : decode cX4_readsThing 103 = .ok (.invokevirtual 72, 3) := dk_182 0 72 (dk_at dksX4_readsThing_4 9 rfl rfl)
theorem dX4_readsThing_106 : decode cX4_readsThing 106 = .ok (.ifCond .ne 5, 3) := dk_154 0 5 (dk_at dksX4_readsThing_4 12 rfl rfl)
theorem dX4_readsThing_109 : decode cX4_readsThing 109 = .ok (.iconst 0, 1) := dk_3 (dk_at dksX4_readsThing_4 15 rfl rfl)
theorem dX4_readsThing_110 : decode cX4_readsThing 110 = .ok (.ireturn, 1) := dk_172 (dk_at dksX4_readsThing_4 16 rfl rfl)
theorem dX4_readsThing_111 : decode cX4_readsThing 111 = .ok (.aload_n 0, 1) := dk_42 (dk_at dksX4_readsThing_4 17 rfl rfl)
theorem dX4_readsThing_112 : decode cX4_readsThing 112 = .ok (.dup, 1) := dk_89 (dk_at dksX4_readsThing_4 18 rfl rfl)
theorem dX4_readsThing_113 : decode cX4_readsThing 113 = .ok (.getfield 28, 3) := dk_180 0 28 (dk_at dksX4_readsThing_4 19 rfl rfl)
theorem dX4_readsThing_116 : decode cX4_readsThing 116 = .ok (.iconst 1, 1) := dk_4 (dk_at dksX4_readsThing_4 22 rfl rfl)
theorem dX4_readsThing_117 : decode cX4_readsThing 117 = .ok (.isub, 1) := dk_100 (dk_at dksX4_readsThing_4 23 rfl rfl)
theorem dX4_readsThing_118 : decode cX4_readsThing 118 = .ok (.putfield 28, 3) := dk_181 0 28 (dk_at dksX4_readsThing_5 0 rfl rfl)
theorem dX4_readsThing_121 : decode cX4_readsThing 121 = .ok (.iconst 1, 1) := dk_4 (dk_at dksX4_readsThing_5 3 rfl rfl)
theorem dX4_readsThing_122 : decode cX4_readsThing 122 = .ok (.ireturn, 1) := dk_172 (dk_at dksX4_readsThing_5 4 rfl rfl)
abbrev cX4_takesSign : ByteArray := prog_13_method_9_code
def yX4_takesSign : MethodName := ⟨RX4, "takesSign", "(I)Z"⟩
def dkwX4_takesSign_1 : List UInt8 := [4, 167, 0, 4, 3, 61, 42, 89, 180, 0, 25, 28, 184, 0, 40, 96, 181, 0, 25, 28, 172]
abbrev dktX4_takesSign_1 : List UInt8 := dkwX4_takesSign_1 ++ []
def dkwX4_takesSign_0 : List UInt8 := [42, 180, 0, 25, 42, 180, 0, 37, 162, 0, 20, 42, 180, 0, 17, 42, 180, 0, 25, 46, 27, 160, 0, 7]
abbrev dktX4_takesSign_0 : List UInt8 := dkwX4_takesSign_0 ++ dktX4_takesSign_1
theorem dksX4_takesSign_0 : cX4_takesSign.data.toList.drop 0 = dktX4_takesSign_0 := by decide +kernel
theorem dksX4_takesSign_1 : cX4_takesSign.data.toList.drop 24 = dktX4_takesSign_1 := dk_seg dksX4_takesSign_0 24 rfl rfl
theorem dX4_takesSign_0 : decode cX4_takesSign 0 = .ok (.aload_n 0, 1) := dk_42 (dk_at dksX4_takesSign_0 0 rfl rfl)
theorem dX4_takesSign_1 : decode cX4_takesSign 1 = .ok (.getfield 25, 3) := dk_180 0 25 (dk_at dksX4_takesSign_0 1 rfl rfl)
theorem dX4_takesSign_4 : decode cX4_takesSign 4 = .ok (.aload_n 0, 1) := dk_42 (dk_at dksX4_takesSign_0 4 rfl rfl)
theorem dX4_takesSign_5 : decode cX4_takesSign 5 = .ok (.getfield 37, 3) := dk_180 0 37 (dk_at dksX4_takesSign_0 5 rfl rfl)
theorem dX4_takesSign_8 : decode cX4_takesSign 8 = .ok (.if_icmp .ge 20, 3) := dk_162 0 20 (dk_at dksX4_takesSign_0 8 rfl rfl)
theorem dX4_takesSign_11 : decode cX4_takesSign 11 = .ok (.aload_n 0, 1) := dk_42 (dk_at dksX4_takesSign_0 11 rfl rfl)
theorem dX4_takesSign_12 : decode cX4_takesSign 12 = .ok (.getfield 17, 3) := dk_180 0 17 (dk_at dksX4_takesSign_0 12 rfl rfl)
theorem dX4_takesSign_15 : decode cX4_takesSign 15 = .ok (.aload_n 0, 1) := dk_42 (dk_at dksX4_takesSign_0 15 rfl rfl)
theorem dX4_takesSign_16 : decode cX4_takesSign 16 = .ok (.getfield 25, 3) := dk_180 0 25 (dk_at dksX4_takesSign_0 16 rfl rfl)
theorem dX4_takesSign_19 : decode cX4_takesSign 19 = .ok (.iaload, 1) := dk_46 (dk_at dksX4_takesSign_0 19 rfl rfl)
theorem dX4_takesSign_20 : decode cX4_takesSign 20 = .ok (.iload_n 1, 1) := dk_27 (dk_at dksX4_takesSign_0 20 rfl rfl)
theorem dX4_takesSign_21 : decode cX4_takesSign 21 = .ok (.if_icmp .ne 7, 3) := dk_160 0 7 (dk_at dksX4_takesSign_0 21 rfl rfl)
theorem dX4_takesSign_24 : decode cX4_takesSign 24 = .ok (.iconst 1, 1) := dk_4 (dk_at dksX4_takesSign_1 0 rfl rfl)
theorem dX4_takesSign_25 : decode cX4_takesSign 25 = .ok (.goto 4, 3) := dk_167 0 4 (dk_at dksX4_takesSign_1 1 rfl rfl)
theorem dX4_takesSign_28 : decode cX4_takesSign 28 = .ok (.iconst 0, 1) := dk_3 (dk_at dksX4_takesSign_1 4 rfl rfl)
theorem dX4_takesSign_29 : decode cX4_takesSign 29 = .ok (.istore_n 2, 1) := dk_61 (dk_at dksX4_takesSign_1 5 rfl rfl)
theorem dX4_takesSign_30 : decode cX4_takesSign 30 = .ok (.aload_n 0, 1) := dk_42 (dk_at dksX4_takesSign_1 6 rfl rfl)
theorem dX4_takesSign_31 : decode cX4_takesSign 31 = .ok (.dup, 1) := dk_89 (dk_at dksX4_takesSign_1 7 rfl rfl)
theorem dX4_takesSign_32 : decode cX4_takesSign 32 = .ok (.getfield 25, 3) := dk_180 0 25 (dk_at dksX4_takesSign_1 8 rfl rfl)
theorem dX4_takesSign_35 : decode cX4_takesSign 35 = .ok (.iload_n 2, 1) := dk_28 (dk_at dksX4_takesSign_1 11 rfl rfl)
theorem dX4_takesSign_36 : decode cX4_takesSign 36 = .ok (.invokestatic 40, 3) := dk_184 0 40 (dk_at dksX4_takesSign_1 12 rfl rfl)
theorem dX4_takesSign_39 : decode cX4_takesSign 39 = .ok (.iadd, 1) := dk_96 (dk_at dksX4_takesSign_1 15 rfl rfl)
theorem dX4_takesSign_40 : decode cX4_takesSign 40 = .ok (.putfield 25, 3) := dk_181 0 25 (dk_at dksX4_takesSign_1 16 rfl rfl)
theorem dX4_takesSign_43 : decode cX4_takesSign 43 = .ok (.iload_n 2, 1) := dk_28 (dk_at dksX4_takesSign_1 19 rfl rfl)
theorem dX4_takesSign_44 : decode cX4_takesSign 44 = .ok (.ireturn, 1) := dk_172 (dk_at dksX4_takesSign_1 20 rfl rfl)
abbrev cX4_flag : ByteArray := prog_13_method_4_code
def yX4_flag : MethodName := ⟨RX4, "flag", "(Z)I"⟩
def dkwX4_flag_0 : List UInt8 := [26, 153, 0, 7, 4, 167, 0, 4, 3, 172]
abbrev dktX4_flag_0 : List UInt8 := dkwX4_flag_0 ++ []
theorem dksX4_flag_0 : cX4_flag.data.toList.drop 0 = dktX4_flag_0 := by decide +kernel
theorem dX4_flag_0 : decode cX4_flag 0 = .ok (.iload_n 0, 1) := dk_26 (dk_at dksX4_flag_0 0 rfl rfl)
theorem dX4_flag_1 : decode cX4_flag 1 = .ok (.ifCond .eq 7, 3) := dk_153 0 7 (dk_at dksX4_flag_0 1 rfl rfl)
theorem dX4_flag_4 : decode cX4_flag 4 = .ok (.iconst 1, 1) := dk_4 (dk_at dksX4_flag_0 4 rfl rfl)
theorem dX4_flag_5 : decode cX4_flag 5 = .ok (.goto 4, 3) := dk_167 0 4 (dk_at dksX4_flag_0 5 rfl rfl)
theorem dX4_flag_8 : decode cX4_flag 8 = .ok (.iconst 0, 1) := dk_3 (dk_at dksX4_flag_0 8 rfl rfl)
theorem dX4_flag_9 : decode cX4_flag 9 = .ok (.ireturn, 1) := dk_172 (dk_at dksX4_flag_0 9 rfl rfl)
abbrev cX4_codes : ByteArray := prog_13_method_16_code
def yX4_codes : MethodName := ⟨RX4, "codes", "(I)V"⟩
def dkwX4_codes_0 : List UInt8 := [42, 180, 0, 66, 42, 180, 0, 69, 27, 79, 42, 89, 180, 0, 69, 4, 96, 181, 0, 69, 177]
abbrev dktX4_codes_0 : List UInt8 := dkwX4_codes_0 ++ []
theorem dksX4_codes_0 : cX4_codes.data.toList.drop 0 = dktX4_codes_0 := by decide +kernel
theorem dX4_codes_0 : decode cX4_codes 0 = .ok (.aload_n 0, 1) := dk_42 (dk_at dksX4_codes_0 0 rfl rfl)
theorem dX4_codes_1 : decode cX4_codes 1 = .ok (.getfield 66, 3) := dk_180 0 66 (dk_at dksX4_codes_0 1 rfl rfl)
theorem dX4_codes_4 : decode cX4_codes 4 = .ok (.aload_n 0, 1) := dk_42 (dk_at dksX4_codes_0 4 rfl rfl)
theorem dX4_codes_5 : decode cX4_codes 5 = .ok (.getfield 69, 3) := dk_180 0 69 (dk_at dksX4_codes_0 5 rfl rfl)
theorem dX4_codes_8 : decode cX4_codes 8 = .ok (.iload_n 1, 1) := dk_27 (dk_at dksX4_codes_0 8 rfl rfl)
theorem dX4_codes_9 : decode cX4_codes 9 = .ok (.iastore, 1) := dk_79 (dk_at dksX4_codes_0 9 rfl rfl)
theorem dX4_codes_10 : decode cX4_codes 10 = .ok (.aload_n 0, 1) := dk_42 (dk_at dksX4_codes_0 10 rfl rfl)
theorem dX4_codes_11 : decode cX4_codes 11 = .ok (.dup, 1) := dk_89 (dk_at dksX4_codes_0 11 rfl rfl)
theorem dX4_codes_12 : decode cX4_codes 12 = .ok (.getfield 69, 3) := dk_180 0 69 (dk_at dksX4_codes_0 12 rfl rfl)
theorem dX4_codes_15 : decode cX4_codes 15 = .ok (.iconst 1, 1) := dk_4 (dk_at dksX4_codes_0 15 rfl rfl)
theorem dX4_codes_16 : decode cX4_codes 16 = .ok (.iadd, 1) := dk_96 (dk_at dksX4_codes_0 16 rfl rfl)
theorem dX4_codes_17 : decode cX4_codes 17 = .ok (.putfield 69, 3) := dk_181 0 69 (dk_at dksX4_codes_0 17 rfl rfl)
theorem dX4_codes_20 : decode cX4_codes 20 = .ok (.return_, 1) := dk_177 (dk_at dksX4_codes_0 20 rfl rfl)
abbrev cX4_isDigit : ByteArray := prog_13_method_10_code
def yX4_isDigit : MethodName := ⟨RX4, "isDigit", "()Z"⟩
def dkwX4_isDigit_1 : List UInt8 := [20, 0, 46, 184, 0, 21, 153, 0, 7, 4, 167, 0, 4, 3, 172]
abbrev dktX4_isDigit_1 : List UInt8 := dkwX4_isDigit_1 ++ []
def dkwX4_isDigit_0 : List UInt8 := [42, 180, 0, 25, 42, 180, 0, 37, 162, 0, 29, 42, 180, 0, 17, 42, 180, 0, 25, 46, 133, 20, 0, 44]
abbrev dktX4_isDigit_0 : List UInt8 := dkwX4_isDigit_0 ++ dktX4_isDigit_1
theorem dksX4_isDigit_0 : cX4_isDigit.data.toList.drop 0 = dktX4_isDigit_0 := by decide +kernel
theorem dksX4_isDigit_1 : cX4_isDigit.data.toList.drop 24 = dktX4_isDigit_1 := dk_seg dksX4_isDigit_0 24 rfl rfl
theorem dX4_isDigit_0 : decode cX4_isDigit 0 = .ok (.aload_n 0, 1) := dk_42 (dk_at dksX4_isDigit_0 0 rfl rfl)
theorem dX4_isDigit_1 : decode cX4_isDigit 1 = .ok (.getfield 25, 3) := dk_180 0 25 (dk_at dksX4_isDigit_0 1 rfl rfl)
theorem dX4_isDigit_4 : decode cX4_isDigit 4 = .ok (.aload_n 0, 1) := dk_42 (dk_at dksX4_isDigit_0 4 rfl rfl)
theorem dX4_isDigit_5 : decode cX4_isDigit 5 = .ok (.getfield 37, 3) := dk_180 0 37 (dk_at dksX4_isDigit_0 5 rfl rfl)
theorem dX4_isDigit_8 : decode cX4_isDigit 8 = .ok (.if_icmp .ge 29, 3) := dk_162 0 29 (dk_at dksX4_isDigit_0 8 rfl rfl)
theorem dX4_isDigit_11 : decode cX4_isDigit 11 = .ok (.aload_n 0, 1) := dk_42 (dk_at dksX4_isDigit_0 11 rfl rfl)
theorem dX4_isDigit_12 : decode cX4_isDigit 12 = .ok (.getfield 17, 3) := dk_180 0 17 (dk_at dksX4_isDigit_0 12 rfl rfl)
theorem dX4_isDigit_15 : decode cX4_isDigit 15 = .ok (.aload_n 0, 1) := dk_42 (dk_at dksX4_isDigit_0 15 rfl rfl)
theorem dX4_isDigit_16 : decode cX4_isDigit 16 = .ok (.getfield 25, 3) := dk_180 0 25 (dk_at dksX4_isDigit_0 16 rfl rfl)
theorem dX4_isDigit_19 : decode cX4_isDigit 19 = .ok (.iaload, 1) := dk_46 (dk_at dksX4_isDigit_0 19 rfl rfl)
theorem dX4_isDigit_20 : decode cX4_isDigit 20 = .ok (.i2l, 1) := dk_133 (dk_at dksX4_isDigit_0 20 rfl rfl)
theorem dX4_isDigit_21 : decode cX4_isDigit 21 = .ok (.ldc2_w 44, 3) := dk_20 0 44 (dk_at dksX4_isDigit_0 21 rfl rfl)
theorem dX4_isDigit_24 : decode cX4_isDigit 24 = .ok (.ldc2_w 46, 3) := dk_20 0 46 (dk_at dksX4_isDigit_1 0 rfl rfl)
theorem dX4_isDigit_27 : decode cX4_isDigit 27 = .ok (.invokestatic 21, 3) := dk_184 0 21 (dk_at dksX4_isDigit_1 3 rfl rfl)
theorem dX4_isDigit_30 : decode cX4_isDigit 30 = .ok (.ifCond .eq 7, 3) := dk_153 0 7 (dk_at dksX4_isDigit_1 6 rfl rfl)
theorem dX4_isDigit_33 : decode cX4_isDigit 33 = .ok (.iconst 1, 1) := dk_4 (dk_at dksX4_isDigit_1 9 rfl rfl)
theorem dX4_isDigit_34 : decode cX4_isDigit 34 = .ok (.goto 4, 3) := dk_167 0 4 (dk_at dksX4_isDigit_1 10 rfl rfl)
theorem dX4_isDigit_37 : decode cX4_isDigit 37 = .ok (.iconst 0, 1) := dk_3 (dk_at dksX4_isDigit_1 13 rfl rfl)
theorem dX4_isDigit_38 : decode cX4_isDigit 38 = .ok (.ireturn, 1) := dk_172 (dk_at dksX4_isDigit_1 14 rfl rfl)
abbrev cX4_number : ByteArray := prog_13_method_12_code
def yX4_number : MethodName := ⟨RX4, "number", "(I)I"⟩
def dkwX4_number_2 : List UInt8 := [180, 0, 25, 4, 96, 181, 0, 25, 132, 3, 1, 167, 255, 213, 28, 172]
abbrev dktX4_number_2 : List UInt8 := dkwX4_number_2 ++ []
def dkwX4_number_1 : List UInt8 := [153, 0, 37, 16, 10, 28, 104, 42, 180, 0, 17, 42, 180, 0, 25, 46, 96, 16, 48, 100, 61, 42, 89]
abbrev dktX4_number_1 : List UInt8 := dkwX4_number_1 ++ dktX4_number_2
def dkwX4_number_0 : List UInt8 := [42, 182, 0, 58, 154, 0, 5, 2, 172, 3, 61, 3, 62, 29, 27, 162, 0, 44, 42, 182, 0, 58]
abbrev dktX4_number_0 : List UInt8 := dkwX4_number_0 ++ dktX4_number_1
theorem dksX4_number_0 : cX4_number.data.toList.drop 0 = dktX4_number_0 := by decide +kernel
theorem dksX4_number_1 : cX4_number.data.toList.drop 22 = dktX4_number_1 := dk_seg dksX4_number_0 22 rfl rfl
theorem dksX4_number_2 : cX4_number.data.toList.drop 45 = dktX4_number_2 := dk_seg dksX4_number_1 23 rfl rfl
theorem dX4_number_0 : decode cX4_number 0 = .ok (.aload_n 0, 1) := dk_42 (dk_at dksX4_number_0 0 rfl rfl)
theorem dX4_number_1 : decode cX4_number 1 = .ok (.invokevirtual 58, 3) := dk_182 0 58 (dk_at dksX4_number_0 1 rfl rfl)
theorem dX4_number_4 : decode cX4_number 4 = .ok (.ifCond .ne 5, 3) := dk_154 0 5 (dk_at dksX4_number_0 4 rfl rfl)
theorem dX4_number_7 : decode cX4_number 7 = .ok (.iconst (-1), 1) := dk_2 (dk_at dksX4_number_0 7 rfl rfl)
theorem dX4_number_8 : decode cX4_number 8 = .ok (.ireturn, 1) := dk_172 (dk_at dksX4_number_0 8 rfl rfl)
theorem dX4_number_9 : decode cX4_number 9 = .ok (.iconst 0, 1) := dk_3 (dk_at dksX4_number_0 9 rfl rfl)
theorem dX4_number_10 : decode cX4_number 10 = .ok (.istore_n 2, 1) := dk_61 (dk_at dksX4_number_0 10 rfl rfl)
theorem dX4_number_11 : decode cX4_number 11 = .ok (.iconst 0, 1) := dk_3 (dk_at dksX4_number_0 11 rfl rfl)
theorem dX4_number_12 : decode cX4_number 12 = .ok (.istore_n 3, 1) := dk_62 (dk_at dksX4_number_0 12 rfl rfl)
theorem dX4_number_13 : decode cX4_number 13 = .ok (.iload_n 3, 1) := dk_29 (dk_at dksX4_number_0 13 rfl rfl)
theorem dX4_number_14 : decode cX4_number 14 = .ok (.iload_n 1, 1) := dk_27 (dk_at dksX4_number_0 14 rfl rfl)
theorem dX4_number_15 : decode cX4_number 15 = .ok (.if_icmp .ge 44, 3) := dk_162 0 44 (dk_at dksX4_number_0 15 rfl rfl)
theorem dX4_number_18 : decode cX4_number 18 = .ok (.aload_n 0, 1) := dk_42 (dk_at dksX4_number_0 18 rfl rfl)
theorem dX4_number_19 : decode cX4_number 19 = .ok (.invokevirtual 58, 3) := dk_182 0 58 (dk_at dksX4_number_0 19 rfl rfl)
theorem dX4_number_22 : decode cX4_number 22 = .ok (.ifCond .eq 37, 3) := dk_153 0 37 (dk_at dksX4_number_1 0 rfl rfl)
theorem dX4_number_25 : decode cX4_number 25 = .ok (.bipush 10, 2) := dk_16 10 (dk_at dksX4_number_1 3 rfl rfl)
theorem dX4_number_27 : decode cX4_number 27 = .ok (.iload_n 2, 1) := dk_28 (dk_at dksX4_number_1 5 rfl rfl)
theorem dX4_number_28 : decode cX4_number 28 = .ok (.imul, 1) := dk_104 (dk_at dksX4_number_1 6 rfl rfl)
theorem dX4_number_29 : decode cX4_number 29 = .ok (.aload_n 0, 1) := dk_42 (dk_at dksX4_number_1 7 rfl rfl)
theorem dX4_number_30 : decode cX4_number 30 = .ok (.getfield 17, 3) := dk_180 0 17 (dk_at dksX4_number_1 8 rfl rfl)
theorem dX4_number_33 : decode cX4_number 33 = .ok (.aload_n 0, 1) := dk_42 (dk_at dksX4_number_1 11 rfl rfl)
theorem dX4_number_34 : decode cX4_number 34 = .ok (.getfield 25, 3) := dk_180 0 25 (dk_at dksX4_number_1 12 rfl rfl)
theorem dX4_number_37 : decode cX4_number 37 = .ok (.iaload, 1) := dk_46 (dk_at dksX4_number_1 15 rfl rfl)
theorem dX4_number_38 : decode cX4_number 38 = .ok (.iadd, 1) := dk_96 (dk_at dksX4_number_1 16 rfl rfl)
theorem dX4_number_39 : decode cX4_number 39 = .ok (.bipush 48, 2) := dk_16 48 (dk_at dksX4_number_1 17 rfl rfl)
theorem dX4_number_41 : decode cX4_number 41 = .ok (.isub, 1) := dk_100 (dk_at dksX4_number_1 19 rfl rfl)
theorem dX4_number_42 : decode cX4_number 42 = .ok (.istore_n 2, 1) := dk_61 (dk_at dksX4_number_1 20 rfl rfl)
theorem dX4_number_43 : decode cX4_number 43 = .ok (.aload_n 0, 1) := dk_42 (dk_at dksX4_number_1 21 rfl rfl)
theorem dX4_number_44 : decode cX4_number 44 = .ok (.dup, 1) := dk_89 (dk_at dksX4_number_1 22 rfl rfl)
theorem dX4_number_45 : decode cX4_number 45 = .ok (.getfield 25, 3) := dk_180 0 25 (dk_at dksX4_number_2 0 rfl rfl)
theorem dX4_number_48 : decode cX4_number 48 = .ok (.iconst 1, 1) := dk_4 (dk_at dksX4_number_2 3 rfl rfl)
theorem dX4_number_49 : decode cX4_number 49 = .ok (.iadd, 1) := dk_96 (dk_at dksX4_number_2 4 rfl rfl)
theorem dX4_number_50 : decode cX4_number 50 = .ok (.putfield 25, 3) := dk_181 0 25 (dk_at dksX4_number_2 5 rfl rfl)
theorem dX4_number_53 : decode cX4_number 53 = .ok (.iinc 3 1, 3) := dk_132 3 1 (dk_at dksX4_number_2 8 rfl rfl)
theorem dX4_number_56 : decode cX4_number 56 = .ok (.goto (-43), 3) := dk_167 255 213 (dk_at dksX4_number_2 11 rfl rfl)
theorem dX4_number_59 : decode cX4_number 59 = .ok (.iload_n 2, 1) := dk_28 (dk_at dksX4_number_2 14 rfl rfl)
theorem dX4_number_60 : decode cX4_number 60 = .ok (.ireturn, 1) := dk_172 (dk_at dksX4_number_2 15 rfl rfl)
abbrev cX4_takesOf : ByteArray := prog_13_method_11_code
def yX4_takesOf : MethodName := ⟨RX4, "takesOf", "(Ljava/lang/String;)I"⟩
def dkwX4_takesOf_2 : List UInt8 := [181, 0, 25, 28, 172, 132, 2, 1, 167, 255, 205, 2, 172]
abbrev dktX4_takesOf_2 : List UInt8 := dkwX4_takesOf_2 ++ []
def dkwX4_takesOf_1 : List UInt8 := [182, 0, 54, 42, 180, 0, 17, 42, 180, 0, 25, 46, 160, 0, 15, 42, 89, 180, 0, 25, 4, 96]
abbrev dktX4_takesOf_1 : List UInt8 := dkwX4_takesOf_1 ++ dktX4_takesOf_2
def dkwX4_takesOf_0 : List UInt8 := [3, 61, 28, 43, 182, 0, 48, 162, 0, 49, 42, 180, 0, 25, 42, 180, 0, 37, 162, 0, 38, 43, 28]
abbrev dktX4_takesOf_0 : List UInt8 := dkwX4_takesOf_0 ++ dktX4_takesOf_1
theorem dksX4_takesOf_0 : cX4_takesOf.data.toList.drop 0 = dktX4_takesOf_0 := by decide +kernel
theorem dksX4_takesOf_1 : cX4_takesOf.data.toList.drop 23 = dktX4_takesOf_1 := dk_seg dksX4_takesOf_0 23 rfl rfl
theorem dksX4_takesOf_2 : cX4_takesOf.data.toList.drop 45 = dktX4_takesOf_2 := dk_seg dksX4_takesOf_1 22 rfl rfl
theorem dX4_takesOf_0 : decode cX4_takesOf 0 = .ok (.iconst 0, 1) := dk_3 (dk_at dksX4_takesOf_0 0 rfl rfl)
theorem dX4_takesOf_1 : decode cX4_takesOf 1 = .ok (.istore_n 2, 1) := dk_61 (dk_at dksX4_takesOf_0 1 rfl rfl)
theorem dX4_takesOf_2 : decode cX4_takesOf 2 = .ok (.iload_n 2, 1) := dk_28 (dk_at dksX4_takesOf_0 2 rfl rfl)
theorem dX4_takesOf_3 : decode cX4_takesOf 3 = .ok (.aload_n 1, 1) := dk_43 (dk_at dksX4_takesOf_0 3 rfl rfl)
theorem dX4_takesOf_4 : decode cX4_takesOf 4 = .ok (.invokevirtual 48, 3) := dk_182 0 48 (dk_at dksX4_takesOf_0 4 rfl rfl)
theorem dX4_takesOf_7 : decode cX4_takesOf 7 = .ok (.if_icmp .ge 49, 3) := dk_162 0 49 (dk_at dksX4_takesOf_0 7 rfl rfl)
theorem dX4_takesOf_10 : decode cX4_takesOf 10 = .ok (.aload_n 0, 1) := dk_42 (dk_at dksX4_takesOf_0 10 rfl rfl)
theorem dX4_takesOf_11 : decode cX4_takesOf 11 = .ok (.getfield 25, 3) := dk_180 0 25 (dk_at dksX4_takesOf_0 11 rfl rfl)
theorem dX4_takesOf_14 : decode cX4_takesOf 14 = .ok (.aload_n 0, 1) := dk_42 (dk_at dksX4_takesOf_0 14 rfl rfl)
theorem dX4_takesOf_15 : decode cX4_takesOf 15 = .ok (.getfield 37, 3) := dk_180 0 37 (dk_at dksX4_takesOf_0 15 rfl rfl)
theorem dX4_takesOf_18 : decode cX4_takesOf 18 = .ok (.if_icmp .ge 38, 3) := dk_162 0 38 (dk_at dksX4_takesOf_0 18 rfl rfl)
theorem dX4_takesOf_21 : decode cX4_takesOf 21 = .ok (.aload_n 1, 1) := dk_43 (dk_at dksX4_takesOf_0 21 rfl rfl)
theorem dX4_takesOf_22 : decode cX4_takesOf 22 = .ok (.iload_n 2, 1) := dk_28 (dk_at dksX4_takesOf_0 22 rfl rfl)
theorem dX4_takesOf_23 : decode cX4_takesOf 23 = .ok (.invokevirtual 54, 3) := dk_182 0 54 (dk_at dksX4_takesOf_1 0 rfl rfl)
theorem dX4_takesOf_26 : decode cX4_takesOf 26 = .ok (.aload_n 0, 1) := dk_42 (dk_at dksX4_takesOf_1 3 rfl rfl)
theorem dX4_takesOf_27 : decode cX4_takesOf 27 = .ok (.getfield 17, 3) := dk_180 0 17 (dk_at dksX4_takesOf_1 4 rfl rfl)
theorem dX4_takesOf_30 : decode cX4_takesOf 30 = .ok (.aload_n 0, 1) := dk_42 (dk_at dksX4_takesOf_1 7 rfl rfl)
theorem dX4_takesOf_31 : decode cX4_takesOf 31 = .ok (.getfield 25, 3) := dk_180 0 25 (dk_at dksX4_takesOf_1 8 rfl rfl)
theorem dX4_takesOf_34 : decode cX4_takesOf 34 = .ok (.iaload, 1) := dk_46 (dk_at dksX4_takesOf_1 11 rfl rfl)
theorem dX4_takesOf_35 : decode cX4_takesOf 35 = .ok (.if_icmp .ne 15, 3) := dk_160 0 15 (dk_at dksX4_takesOf_1 12 rfl rfl)
theorem dX4_takesOf_38 : decode cX4_takesOf 38 = .ok (.aload_n 0, 1) := dk_42 (dk_at dksX4_takesOf_1 15 rfl rfl)
theorem dX4_takesOf_39 : decode cX4_takesOf 39 = .ok (.dup, 1) := dk_89 (dk_at dksX4_takesOf_1 16 rfl rfl)
theorem dX4_takesOf_40 : decode cX4_takesOf 40 = .ok (.getfield 25, 3) := dk_180 0 25 (dk_at dksX4_takesOf_1 17 rfl rfl)
theorem dX4_takesOf_43 : decode cX4_takesOf 43 = .ok (.iconst 1, 1) := dk_4 (dk_at dksX4_takesOf_1 20 rfl rfl)
theorem dX4_takesOf_44 : decode cX4_takesOf 44 = .ok (.iadd, 1) := dk_96 (dk_at dksX4_takesOf_1 21 rfl rfl)
theorem dX4_takesOf_45 : decode cX4_takesOf 45 = .ok (.putfield 25, 3) := dk_181 0 25 (dk_at dksX4_takesOf_2 0 rfl rfl)
theorem dX4_takesOf_48 : decode cX4_takesOf 48 = .ok (.iload_n 2, 1) := dk_28 (dk_at dksX4_takesOf_2 3 rfl rfl)
theorem dX4_takesOf_49 : decode cX4_takesOf 49 = .ok (.ireturn, 1) := dk_172 (dk_at dksX4_takesOf_2 4 rfl rfl)
theorem dX4_takesOf_50 : decode cX4_takesOf 50 = .ok (.iinc 2 1, 3) := dk_132 2 1 (dk_at dksX4_takesOf_2 5 rfl rfl)
theorem dX4_takesOf_53 : decode cX4_takesOf 53 = .ok (.goto (-51), 3) := dk_167 255 205 (dk_at dksX4_takesOf_2 8 rfl rfl)
theorem dX4_takesOf_56 : decode cX4_takesOf 56 = .ok (.iconst (-1), 1) := dk_2 (dk_at dksX4_takesOf_2 11 rfl rfl)
theorem dX4_takesOf_57 : decode cX4_takesOf 57 = .ok (.ireturn, 1) := dk_172 (dk_at dksX4_takesOf_2 12 rfl rfl)
abbrev cX4_faultOf : ByteArray := prog_13_method_15_code
def yX4_faultOf : MethodName := ⟨RX4, "faultOf", "(IIZ)I"⟩
def dkwX4_faultOf_2 : List UInt8 := [153, 0, 7, 3, 167, 0, 9, 2, 42, 180, 0, 25, 100, 172]
abbrev dktX4_faultOf_2 : List UInt8 := dkwX4_faultOf_2 ++ []
def dkwX4_faultOf_1 : List UInt8 := [164, 0, 20, 21, 4, 154, 0, 11, 42, 180, 0, 25, 28, 161, 0, 7, 2, 28, 100, 172, 21, 4]
abbrev dktX4_faultOf_1 : List UInt8 := dkwX4_faultOf_1 ++ dktX4_faultOf_2
def dkwX4_faultOf_0 : List UInt8 := [29, 153, 0, 18, 42, 180, 0, 25, 42, 180, 0, 37, 160, 0, 7, 4, 167, 0, 4, 3, 54, 4, 27, 28]
abbrev dktX4_faultOf_0 : List UInt8 := dkwX4_faultOf_0 ++ dktX4_faultOf_1
theorem dksX4_faultOf_0 : cX4_faultOf.data.toList.drop 0 = dktX4_faultOf_0 := by decide +kernel
theorem dksX4_faultOf_1 : cX4_faultOf.data.toList.drop 24 = dktX4_faultOf_1 := dk_seg dksX4_faultOf_0 24 rfl rfl
theorem dksX4_faultOf_2 : cX4_faultOf.data.toList.drop 46 = dktX4_faultOf_2 := dk_seg dksX4_faultOf_1 22 rfl rfl
theorem dX4_faultOf_0 : decode cX4_faultOf 0 = .ok (.iload_n 3, 1) := dk_29 (dk_at dksX4_faultOf_0 0 rfl rfl)
theorem dX4_faultOf_1 : decode cX4_faultOf 1 = .ok (.ifCond .eq 18, 3) := dk_153 0 18 (dk_at dksX4_faultOf_0 1 rfl rfl)
theorem dX4_faultOf_4 : decode cX4_faultOf 4 = .ok (.aload_n 0, 1) := dk_42 (dk_at dksX4_faultOf_0 4 rfl rfl)
theorem dX4_faultOf_5 : decode cX4_faultOf 5 = .ok (.getfield 25, 3) := dk_180 0 25 (dk_at dksX4_faultOf_0 5 rfl rfl)
theorem dX4_faultOf_8 : decode cX4_faultOf 8 = .ok (.aload_n 0, 1) := dk_42 (dk_at dksX4_faultOf_0 8 rfl rfl)
theorem dX4_faultOf_9 : decode cX4_faultOf 9 = .ok (.getfield 37, 3) := dk_180 0 37 (dk_at dksX4_faultOf_0 9 rfl rfl)
theorem dX4_faultOf_12 : decode cX4_faultOf 12 = .ok (.if_icmp .ne 7, 3) := dk_160 0 7 (dk_at dksX4_faultOf_0 12 rfl rfl)
theorem dX4_faultOf_15 : decode cX4_faultOf 15 = .ok (.iconst 1, 1) := dk_4 (dk_at dksX4_faultOf_0 15 rfl rfl)
theorem dX4_faultOf_16 : decode cX4_faultOf 16 = .ok (.goto 4, 3) := dk_167 0 4 (dk_at dksX4_faultOf_0 16 rfl rfl)
theorem dX4_faultOf_19 : decode cX4_faultOf 19 = .ok (.iconst 0, 1) := dk_3 (dk_at dksX4_faultOf_0 19 rfl rfl)
theorem dX4_faultOf_20 : decode cX4_faultOf 20 = .ok (.istore 4, 2) := dk_54 4 (dk_at dksX4_faultOf_0 20 rfl rfl)
theorem dX4_faultOf_22 : decode cX4_faultOf 22 = .ok (.iload_n 1, 1) := dk_27 (dk_at dksX4_faultOf_0 22 rfl rfl)
theorem dX4_faultOf_23 : decode cX4_faultOf 23 = .ok (.iload_n 2, 1) := dk_28 (dk_at dksX4_faultOf_0 23 rfl rfl)
theorem dX4_faultOf_24 : decode cX4_faultOf 24 = .ok (.if_icmp .le 20, 3) := dk_164 0 20 (dk_at dksX4_faultOf_1 0 rfl rfl)
theorem dX4_faultOf_27 : decode cX4_faultOf 27 = .ok (.iload 4, 2) := dk_21 4 (dk_at dksX4_faultOf_1 3 rfl rfl)
theorem dX4_faultOf_29 : decode cX4_faultOf 29 = .ok (.ifCond .ne 11, 3) := dk_154 0 11 (dk_at dksX4_faultOf_1 5 rfl rfl)
theorem dX4_faultOf_32 : decode cX4_faultOf 32 = .ok (.aload_n 0, 1) := dk_42 (dk_at dksX4_faultOf_1 8 rfl rfl)
theorem dX4_faultOf_33 : decode cX4_faultOf 33 = .ok (.getfield 25, 3) := dk_180 0 25 (dk_at dksX4_faultOf_1 9 rfl rfl)
theorem dX4_faultOf_36 : decode cX4_faultOf 36 = .ok (.iload_n 2, 1) := dk_28 (dk_at dksX4_faultOf_1 12 rfl rfl)
theorem dX4_faultOf_37 : decode cX4_faultOf 37 = .ok (.if_icmp .lt 7, 3) := dk_161 0 7 (dk_at dksX4_faultOf_1 13 rfl rfl)
theorem dX4_faultOf_40 : decode cX4_faultOf 40 = .ok (.iconst (-1), 1) := dk_2 (dk_at dksX4_faultOf_1 16 rfl rfl)
theorem dX4_faultOf_41 : decode cX4_faultOf 41 = .ok (.iload_n 2, 1) := dk_28 (dk_at dksX4_faultOf_1 17 rfl rfl)
theorem dX4_faultOf_42 : decode cX4_faultOf 42 = .ok (.isub, 1) := dk_100 (dk_at dksX4_faultOf_1 18 rfl rfl)
theorem dX4_faultOf_43 : decode cX4_faultOf 43 = .ok (.ireturn, 1) := dk_172 (dk_at dksX4_faultOf_1 19 rfl rfl)
theorem dX4_faultOf_44 : decode cX4_faultOf 44 = .ok (.iload 4, 2) := dk_21 4 (dk_at dksX4_faultOf_1 20 rfl rfl)
theorem dX4_faultOf_46 : decode cX4_faultOf 46 = .ok (.ifCond .eq 7, 3) := dk_153 0 7 (dk_at dksX4_faultOf_2 0 rfl rfl)
theorem dX4_faultOf_49 : decode cX4_faultOf 49 = .ok (.iconst 0, 1) := dk_3 (dk_at dksX4_faultOf_2 3 rfl rfl)
theorem dX4_faultOf_50 : decode cX4_faultOf 50 = .ok (.goto 9, 3) := dk_167 0 9 (dk_at dksX4_faultOf_2 4 rfl rfl)
theorem dX4_faultOf_53 : decode cX4_faultOf 53 = .ok (.iconst (-1), 1) := dk_2 (dk_at dksX4_faultOf_2 7 rfl rfl)
theorem dX4_faultOf_54 : decode cX4_faultOf 54 = .ok (.aload_n 0, 1) := dk_42 (dk_at dksX4_faultOf_2 8 rfl rfl)
theorem dX4_faultOf_55 : decode cX4_faultOf 55 = .ok (.getfield 25, 3) := dk_180 0 25 (dk_at dksX4_faultOf_2 9 rfl rfl)
theorem dX4_faultOf_58 : decode cX4_faultOf 58 = .ok (.isub, 1) := dk_100 (dk_at dksX4_faultOf_2 12 rfl rfl)
theorem dX4_faultOf_59 : decode cX4_faultOf 59 = .ok (.ireturn, 1) := dk_172 (dk_at dksX4_faultOf_2 13 rfl rfl)
abbrev cX4_laysCode : ByteArray := prog_13_method_20_code
def yX4_laysCode : MethodName := ⟨RX4, "laysCode", "([II)V"⟩
def dkwX4_laysCode_1 : List UInt8 := [167, 255, 239, 177]
abbrev dktX4_laysCode_1 : List UInt8 := dkwX4_laysCode_1 ++ []
def dkwX4_laysCode_0 : List UInt8 := [42, 28, 181, 0, 105, 3, 62, 29, 28, 162, 0, 18, 42, 180, 0, 108, 29, 43, 29, 46, 79, 132, 3, 1]
abbrev dktX4_laysCode_0 : List UInt8 := dkwX4_laysCode_0 ++ dktX4_laysCode_1
theorem dksX4_laysCode_0 : cX4_laysCode.data.toList.drop 0 = dktX4_laysCode_0 := by decide +kernel
theorem dksX4_laysCode_1 : cX4_laysCode.data.toList.drop 24 = dktX4_laysCode_1 := dk_seg dksX4_laysCode_0 24 rfl rfl
theorem dX4_laysCode_0 : decode cX4_laysCode 0 = .ok (.aload_n 0, 1) := dk_42 (dk_at dksX4_laysCode_0 0 rfl rfl)
theorem dX4_laysCode_1 : decode cX4_laysCode 1 = .ok (.iload_n 2, 1) := dk_28 (dk_at dksX4_laysCode_0 1 rfl rfl)
theorem dX4_laysCode_2 : decode cX4_laysCode 2 = .ok (.putfield 105, 3) := dk_181 0 105 (dk_at dksX4_laysCode_0 2 rfl rfl)
theorem dX4_laysCode_5 : decode cX4_laysCode 5 = .ok (.iconst 0, 1) := dk_3 (dk_at dksX4_laysCode_0 5 rfl rfl)
theorem dX4_laysCode_6 : decode cX4_laysCode 6 = .ok (.istore_n 3, 1) := dk_62 (dk_at dksX4_laysCode_0 6 rfl rfl)
theorem dX4_laysCode_7 : decode cX4_laysCode 7 = .ok (.iload_n 3, 1) := dk_29 (dk_at dksX4_laysCode_0 7 rfl rfl)
theorem dX4_laysCode_8 : decode cX4_laysCode 8 = .ok (.iload_n 2, 1) := dk_28 (dk_at dksX4_laysCode_0 8 rfl rfl)
theorem dX4_laysCode_9 : decode cX4_laysCode 9 = .ok (.if_icmp .ge 18, 3) := dk_162 0 18 (dk_at dksX4_laysCode_0 9 rfl rfl)
theorem dX4_laysCode_12 : decode cX4_laysCode 12 = .ok (.aload_n 0, 1) := dk_42 (dk_at dksX4_laysCode_0 12 rfl rfl)
theorem dX4_laysCode_13 : decode cX4_laysCode 13 = .ok (.getfield 108, 3) := dk_180 0 108 (dk_at dksX4_laysCode_0 13 rfl rfl)
theorem dX4_laysCode_16 : decode cX4_laysCode 16 = .ok (.iload_n 3, 1) := dk_29 (dk_at dksX4_laysCode_0 16 rfl rfl)
theorem dX4_laysCode_17 : decode cX4_laysCode 17 = .ok (.aload_n 1, 1) := dk_43 (dk_at dksX4_laysCode_0 17 rfl rfl)
theorem dX4_laysCode_18 : decode cX4_laysCode 18 = .ok (.iload_n 3, 1) := dk_29 (dk_at dksX4_laysCode_0 18 rfl rfl)
theorem dX4_laysCode_19 : decode cX4_laysCode 19 = .ok (.iaload, 1) := dk_46 (dk_at dksX4_laysCode_0 19 rfl rfl)
theorem dX4_laysCode_20 : decode cX4_laysCode 20 = .ok (.iastore, 1) := dk_79 (dk_at dksX4_laysCode_0 20 rfl rfl)
theorem dX4_laysCode_21 : decode cX4_laysCode 21 = .ok (.iinc 3 1, 3) := dk_132 3 1 (dk_at dksX4_laysCode_0 21 rfl rfl)
theorem dX4_laysCode_24 : decode cX4_laysCode 24 = .ok (.goto (-17), 3) := dk_167 255 239 (dk_at dksX4_laysCode_1 0 rfl rfl)
theorem dX4_laysCode_27 : decode cX4_laysCode 27 = .ok (.return_, 1) := dk_177 (dk_at dksX4_laysCode_1 3 rfl rfl)
abbrev cX4_init : ByteArray := prog_13_method_24_code
def yX4_init : MethodName := ⟨RX4, "<init>", "()V"⟩
def dkwX4_init_12 : List UInt8 := [17, 3, 58, 5, 79, 177]
abbrev dktX4_init_12 : List UInt8 := dkwX4_init_12 ++ []
def dkwX4_init_11 : List UInt8 := [162, 0, 20, 42, 180, 0, 146, 17, 3, 54, 27, 96, 7, 79, 132, 1, 1, 167, 255, 237, 42, 180, 0, 146]
abbrev dktX4_init_11 : List UInt8 := dkwX4_init_11 ++ dktX4_init_12
def dkwX4_init_10 : List UInt8 := [79, 42, 180, 0, 146, 17, 3, 50, 27, 96, 7, 27, 100, 79, 132, 1, 1, 167, 255, 222, 3, 60, 27, 7]
abbrev dktX4_init_10 : List UInt8 := dkwX4_init_10 ++ dktX4_init_11
def dkwX4_init_9 : List UInt8 := [188, 10, 181, 0, 195, 4, 60, 27, 7, 162, 0, 35, 42, 180, 0, 146, 17, 3, 46, 27, 96, 7, 27, 100]
abbrev dktX4_init_9 : List UInt8 := dkwX4_init_9 ++ dktX4_init_10
def dkwX4_init_8 : List UInt8 := [188, 10, 181, 0, 185, 42, 5, 188, 4, 181, 0, 188, 42, 5, 188, 10, 181, 0, 192, 42, 17, 6, 152]
abbrev dktX4_init_8 : List UInt8 := dkwX4_init_8 ++ dktX4_init_9
def dkwX4_init_7 : List UInt8 := [188, 10, 181, 0, 176, 42, 16, 12, 188, 10, 181, 0, 179, 42, 16, 41, 188, 10, 181, 0, 182, 42, 16, 80]
abbrev dktX4_init_7 : List UInt8 := dkwX4_init_7 ++ dktX4_init_8
def dkwX4_init_6 : List UInt8 := [16, 80, 188, 10, 181, 0, 167, 42, 7, 188, 10, 181, 0, 170, 42, 8, 188, 10, 181, 0, 173, 42, 16, 12]
abbrev dktX4_init_6 : List UInt8 := dkwX4_init_6 ++ dktX4_init_7
def dkwX4_init_5 : List UInt8 := [16, 80, 188, 10, 181, 0, 158, 42, 16, 80, 188, 10, 181, 0, 161, 42, 16, 80, 188, 10, 181, 0, 164, 42]
abbrev dktX4_init_5 : List UInt8 := dkwX4_init_5 ++ dktX4_init_6
def dkwX4_init_4 : List UInt8 := [188, 10, 181, 0, 149, 42, 17, 29, 172, 188, 10, 181, 0, 152, 42, 16, 80, 188, 10, 181, 0, 155, 42]
abbrev dktX4_init_4 : List UInt8 := dkwX4_init_4 ++ dktX4_init_5
def dkwX4_init_3 : List UInt8 := [181, 0, 140, 42, 8, 188, 10, 181, 0, 143, 42, 17, 3, 76, 188, 10, 181, 0, 146, 42, 17, 3, 76]
abbrev dktX4_init_3 : List UInt8 := dkwX4_init_3 ++ dktX4_init_4
def dkwX4_init_2 : List UInt8 := [188, 10, 181, 0, 125, 42, 8, 188, 10, 181, 0, 134, 42, 8, 188, 10, 181, 0, 137, 42, 8, 188, 10]
abbrev dktX4_init_2 : List UInt8 := dkwX4_init_2 ++ dktX4_init_3
def dkwX4_init_1 : List UInt8 := [188, 10, 181, 0, 108, 42, 16, 80, 188, 10, 181, 0, 66, 42, 16, 80, 188, 10, 181, 0, 118, 42, 16, 7]
abbrev dktX4_init_1 : List UInt8 := dkwX4_init_1 ++ dktX4_init_2
def dkwX4_init_0 : List UInt8 := [42, 183, 0, 128, 42, 16, 24, 188, 11, 181, 0, 7, 42, 16, 80, 188, 10, 181, 0, 17, 42, 16, 80]
abbrev dktX4_init_0 : List UInt8 := dkwX4_init_0 ++ dktX4_init_1
theorem dksX4_init_0 : cX4_init.data.toList.drop 0 = dktX4_init_0 := by decide +kernel
theorem dksX4_init_1 : cX4_init.data.toList.drop 23 = dktX4_init_1 := dk_seg dksX4_init_0 23 rfl rfl
theorem dksX4_init_2 : cX4_init.data.toList.drop 47 = dktX4_init_2 := dk_seg dksX4_init_1 24 rfl rfl
theorem dksX4_init_3 : cX4_init.data.toList.drop 70 = dktX4_init_3 := dk_seg dksX4_init_2 23 rfl rfl
theorem dksX4_init_4 : cX4_init.data.toList.drop 93 = dktX4_init_4 := dk_seg dksX4_init_3 23 rfl rfl
theorem dksX4_init_5 : cX4_init.data.toList.drop 116 = dktX4_init_5 := dk_seg dksX4_init_4 23 rfl rfl
theorem dksX4_init_6 : cX4_init.data.toList.drop 140 = dktX4_init_6 := dk_seg dksX4_init_5 24 rfl rfl
theorem dksX4_init_7 : cX4_init.data.toList.drop 164 = dktX4_init_7 := dk_seg dksX4_init_6 24 rfl rfl
theorem dksX4_init_8 : cX4_init.data.toList.drop 188 = dktX4_init_8 := dk_seg dksX4_init_7 24 rfl rfl
theorem dksX4_init_9 : cX4_init.data.toList.drop 211 = dktX4_init_9 := dk_seg dksX4_init_8 23 rfl rfl
theorem dksX4_init_10 : cX4_init.data.toList.drop 235 = dktX4_init_10 := dk_seg dksX4_init_9 24 rfl rfl
theorem dksX4_init_11 : cX4_init.data.toList.drop 259 = dktX4_init_11 := dk_seg dksX4_init_10 24 rfl rfl
theorem dksX4_init_12 : cX4_init.data.toList.drop 283 = dktX4_init_12 := dk_seg dksX4_init_11 24 rfl rfl
theorem dX4_init_0 : decode cX4_init 0 = .ok (.aload_n 0, 1) := dk_42 (dk_at dksX4_init_0 0 rfl rfl)
theorem dX4_init_1 : decode cX4_init 1 = .ok (.invokespecial 128, 3) := dk_183 0 128 (dk_at dksX4_init_0 1 rfl rfl)
theorem dX4_init_4 : decode cX4_init 4 = .ok (.aload_n 0, 1) := dk_42 (dk_at dksX4_init_0 4 rfl rfl)
theorem dX4_init_5 : decode cX4_init 5 = .ok (.bipush 24, 2) := dk_16 24 (dk_at dksX4_init_0 5 rfl rfl)
theorem dX4_init_7 : decode cX4_init 7 = .ok (.newarray .long, 2) := dk_188_11 (dk_at dksX4_init_0 7 rfl rfl)
theorem dX4_init_9 : decode cX4_init 9 = .ok (.putfield 7, 3) := dk_181 0 7 (dk_at dksX4_init_0 9 rfl rfl)
theorem dX4_init_12 : decode cX4_init 12 = .ok (.aload_n 0, 1) := dk_42 (dk_at dksX4_init_0 12 rfl rfl)
theorem dX4_init_13 : decode cX4_init 13 = .ok (.bipush 80, 2) := dk_16 80 (dk_at dksX4_init_0 13 rfl rfl)
theorem dX4_init_15 : decode cX4_init 15 = .ok (.newarray .int, 2) := dk_188_10 (dk_at dksX4_init_0 15 rfl rfl)
theorem dX4_init_17 : decode cX4_init 17 = .ok (.putfield 17, 3) := dk_181 0 17 (dk_at dksX4_init_0 17 rfl rfl)
theorem dX4_init_20 : decode cX4_init 20 = .ok (.aload_n 0, 1) := dk_42 (dk_at dksX4_init_0 20 rfl rfl)
theorem dX4_init_21 : decode cX4_init 21 = .ok (.bipush 80, 2) := dk_16 80 (dk_at dksX4_init_0 21 rfl rfl)
theorem dX4_init_23 : decode cX4_init 23 = .ok (.newarray .int, 2) := dk_188_10 (dk_at dksX4_init_1 0 rfl rfl)
theorem dX4_init_25 : decode cX4_init 25 = .ok (.putfield 108, 3) := dk_181 0 108 (dk_at dksX4_init_1 2 rfl rfl)
theorem dX4_init_28 : decode cX4_init 28 = .ok (.aload_n 0, 1) := dk_42 (dk_at dksX4_init_1 5 rfl rfl)
theorem dX4_init_29 : decode cX4_init 29 = .ok (.bipush 80, 2) := dk_16 80 (dk_at dksX4_init_1 6 rfl rfl)
theorem dX4_init_31 : decode cX4_init 31 = .ok (.newarray .int, 2) := dk_188_10 (dk_at dksX4_init_1 8 rfl rfl)
theorem dX4_init_33 : decode cX4_init 33 = .ok (.putfield 66, 3) := dk_181 0 66 (dk_at dksX4_init_1 10 rfl rfl)
theorem dX4_init_36 : decode cX4_init 36 = .ok (.aload_n 0, 1) := dk_42 (dk_at dksX4_init_1 13 rfl rfl)
theorem dX4_init_37 : decode cX4_init 37 = .ok (.bipush 80, 2) := dk_16 80 (dk_at dksX4_init_1 14 rfl rfl)
theorem dX4_init_39 : decode cX4_init 39 = .ok (.newarray .int, 2) := dk_188_10 (dk_at dksX4_init_1 16 rfl rfl)
theorem dX4_init_41 : decode cX4_init 41 = .ok (.putfield 118, 3) := dk_181 0 118 (dk_at dksX4_init_1 18 rfl rfl)
theorem dX4_init_44 : decode cX4_init 44 = .ok (.aload_n 0, 1) := dk_42 (dk_at dksX4_init_1 21 rfl rfl)
theorem dX4_init_45 : decode cX4_init 45 = .ok (.bipush 7, 2) := dk_16 7 (dk_at dksX4_init_1 22 rfl rfl)
theorem dX4_init_47 : decode cX4_init 47 = .ok (.newarray .int, 2) := dk_188_10 (dk_at dksX4_init_2 0 rfl rfl)
theorem dX4_init_49 : decode cX4_init 49 = .ok (.putfield 125, 3) := dk_181 0 125 (dk_at dksX4_init_2 2 rfl rfl)
theorem dX4_init_52 : decode cX4_init 52 = .ok (.aload_n 0, 1) := dk_42 (dk_at dksX4_init_2 5 rfl rfl)
theorem dX4_init_53 : decode cX4_init 53 = .ok (.iconst 5, 1) := dk_8 (dk_at dksX4_init_2 6 rfl rfl)
theorem dX4_init_54 : decode cX4_init 54 = .ok (.newarray .int, 2) := dk_188_10 (dk_at dksX4_init_2 7 rfl rfl)
theorem dX4_init_56 : decode cX4_init 56 = .ok (.putfield 134, 3) := dk_181 0 134 (dk_at dksX4_init_2 9 rfl rfl)
theorem dX4_init_59 : decode cX4_init 59 = .ok (.aload_n 0, 1) := dk_42 (dk_at dksX4_init_2 12 rfl rfl)
theorem dX4_init_60 : decode cX4_init 60 = .ok (.iconst 5, 1) := dk_8 (dk_at dksX4_init_2 13 rfl rfl)
theorem dX4_init_61 : decode cX4_init 61 = .ok (.newarray .int, 2) := dk_188_10 (dk_at dksX4_init_2 14 rfl rfl)
theorem dX4_init_63 : decode cX4_init 63 = .ok (.putfield 137, 3) := dk_181 0 137 (dk_at dksX4_init_2 16 rfl rfl)
theorem dX4_init_66 : decode cX4_init 66 = .ok (.aload_n 0, 1) := dk_42 (dk_at dksX4_init_2 19 rfl rfl)
theorem dX4_init_67 : decode cX4_init 67 = .ok (.iconst 5, 1) := dk_8 (dk_at dksX4_init_2 20 rfl rfl)
theorem dX4_init_68 : decode cX4_init 68 = .ok (.newarray .int, 2) := dk_188_10 (dk_at dksX4_init_2 21 rfl rfl)
theorem dX4_init_70 : decode cX4_init 70 = .ok (.putfield 140, 3) := dk_181 0 140 (dk_at dksX4_init_3 0 rfl rfl)
theorem dX4_init_73 : decode cX4_init 73 = .ok (.aload_n 0, 1) := dk_42 (dk_at dksX4_init_3 3 rfl rfl)
theorem dX4_init_74 : decode cX4_init 74 = .ok (.iconst 5, 1) := dk_8 (dk_at dksX4_init_3 4 rfl rfl)
theorem dX4_init_75 : decode cX4_init 75 = .ok (.newarray .int, 2) := dk_188_10 (dk_at dksX4_init_3 5 rfl rfl)
theorem dX4_init_77 : decode cX4_init 77 = .ok (.putfield 143, 3) := dk_181 0 143 (dk_at dksX4_init_3 7 rfl rfl)
theorem dX4_init_80 : decode cX4_init 80 = .ok (.aload_n 0, 1) := dk_42 (dk_at dksX4_init_3 10 rfl rfl)
theorem dX4_init_81 : decode cX4_init 81 = .ok (.sipush 844, 3) := dk_17 3 76 (dk_at dksX4_init_3 11 rfl rfl)
theorem dX4_init_84 : decode cX4_init 84 = .ok (.newarray .int, 2) := dk_188_10 (dk_at dksX4_init_3 14 rfl rfl)
theorem dX4_init_86 : decode cX4_init 86 = .ok (.putfield 146, 3) := dk_181 0 146 (dk_at dksX4_init_3 16 rfl rfl)
theorem dX4_init_89 : decode cX4_init 89 = .ok (.aload_n 0, 1) := dk_42 (dk_at dksX4_init_3 19 rfl rfl)
theorem dX4_init_90 : decode cX4_init 90 = .ok (.sipush 844, 3) := dk_17 3 76 (dk_at dksX4_init_3 20 rfl rfl)
theorem dX4_init_93 : decode cX4_init 93 = .ok (.newarray .int, 2) := dk_188_10 (dk_at dksX4_init_4 0 rfl rfl)
theorem dX4_init_95 : decode cX4_init 95 = .ok (.putfield 149, 3) := dk_181 0 149 (dk_at dksX4_init_4 2 rfl rfl)
theorem dX4_init_98 : decode cX4_init 98 = .ok (.aload_n 0, 1) := dk_42 (dk_at dksX4_init_4 5 rfl rfl)
theorem dX4_init_99 : decode cX4_init 99 = .ok (.sipush 7596, 3) := dk_17 29 172 (dk_at dksX4_init_4 6 rfl rfl)
theorem dX4_init_102 : decode cX4_init 102 = .ok (.newarray .int, 2) := dk_188_10 (dk_at dksX4_init_4 9 rfl rfl)
theorem dX4_init_104 : decode cX4_init 104 = .ok (.putfield 152, 3) := dk_181 0 152 (dk_at dksX4_init_4 11 rfl rfl)
theorem dX4_init_107 : decode cX4_init 107 = .ok (.aload_n 0, 1) := dk_42 (dk_at dksX4_init_4 14 rfl rfl)
theorem dX4_init_108 : decode cX4_init 108 = .ok (.bipush 80, 2) := dk_16 80 (dk_at dksX4_init_4 15 rfl rfl)
theorem dX4_init_110 : decode cX4_init 110 = .ok (.newarray .int, 2) := dk_188_10 (dk_at dksX4_init_4 17 rfl rfl)
theorem dX4_init_112 : decode cX4_init 112 = .ok (.putfield 155, 3) := dk_181 0 155 (dk_at dksX4_init_4 19 rfl rfl)
theorem dX4_init_115 : decode cX4_init 115 = .ok (.aload_n 0, 1) := dk_42 (dk_at dksX4_init_4 22 rfl rfl)
theorem dX4_init_116 : decode cX4_init 116 = .ok (.bipush 80, 2) := dk_16 80 (dk_at dksX4_init_5 0 rfl rfl)
theorem dX4_init_118 : decode cX4_init 118 = .ok (.newarray .int, 2) := dk_188_10 (dk_at dksX4_init_5 2 rfl rfl)
theorem dX4_init_120 : decode cX4_init 120 = .ok (.putfield 158, 3) := dk_181 0 158 (dk_at dksX4_init_5 4 rfl rfl)
theorem dX4_init_123 : decode cX4_init 123 = .ok (.aload_n 0, 1) := dk_42 (dk_at dksX4_init_5 7 rfl rfl)
theorem dX4_init_124 : decode cX4_init 124 = .ok (.bipush 80, 2) := dk_16 80 (dk_at dksX4_init_5 8 rfl rfl)
theorem dX4_init_126 : decode cX4_init 126 = .ok (.newarray .int, 2) := dk_188_10 (dk_at dksX4_init_5 10 rfl rfl)
theorem dX4_init_128 : decode cX4_init 128 = .ok (.putfield 161, 3) := dk_181 0 161 (dk_at dksX4_init_5 12 rfl rfl)
theorem dX4_init_131 : decode cX4_init 131 = .ok (.aload_n 0, 1) := dk_42 (dk_at dksX4_init_5 15 rfl rfl)
theorem dX4_init_132 : decode cX4_init 132 = .ok (.bipush 80, 2) := dk_16 80 (dk_at dksX4_init_5 16 rfl rfl)
theorem dX4_init_134 : decode cX4_init 134 = .ok (.newarray .int, 2) := dk_188_10 (dk_at dksX4_init_5 18 rfl rfl)
theorem dX4_init_136 : decode cX4_init 136 = .ok (.putfield 164, 3) := dk_181 0 164 (dk_at dksX4_init_5 20 rfl rfl)
theorem dX4_init_139 : decode cX4_init 139 = .ok (.aload_n 0, 1) := dk_42 (dk_at dksX4_init_5 23 rfl rfl)
theorem dX4_init_140 : decode cX4_init 140 = .ok (.bipush 80, 2) := dk_16 80 (dk_at dksX4_init_6 0 rfl rfl)
theorem dX4_init_142 : decode cX4_init 142 = .ok (.newarray .int, 2) := dk_188_10 (dk_at dksX4_init_6 2 rfl rfl)
theorem dX4_init_144 : decode cX4_init 144 = .ok (.putfield 167, 3) := dk_181 0 167 (dk_at dksX4_init_6 4 rfl rfl)
theorem dX4_init_147 : decode cX4_init 147 = .ok (.aload_n 0, 1) := dk_42 (dk_at dksX4_init_6 7 rfl rfl)
theorem dX4_init_148 : decode cX4_init 148 = .ok (.iconst 4, 1) := dk_7 (dk_at dksX4_init_6 8 rfl rfl)
theorem dX4_init_149 : decode cX4_init 149 = .ok (.newarray .int, 2) := dk_188_10 (dk_at dksX4_init_6 9 rfl rfl)
theorem dX4_init_151 : decode cX4_init 151 = .ok (.putfield 170, 3) := dk_181 0 170 (dk_at dksX4_init_6 11 rfl rfl)
theorem dX4_init_154 : decode cX4_init 154 = .ok (.aload_n 0, 1) := dk_42 (dk_at dksX4_init_6 14 rfl rfl)
theorem dX4_init_155 : decode cX4_init 155 = .ok (.iconst 5, 1) := dk_8 (dk_at dksX4_init_6 15 rfl rfl)
theorem dX4_init_156 : decode cX4_init 156 = .ok (.newarray .int, 2) := dk_188_10 (dk_at dksX4_init_6 16 rfl rfl)
theorem dX4_init_158 : decode cX4_init 158 = .ok (.putfield 173, 3) := dk_181 0 173 (dk_at dksX4_init_6 18 rfl rfl)
theorem dX4_init_161 : decode cX4_init 161 = .ok (.aload_n 0, 1) := dk_42 (dk_at dksX4_init_6 21 rfl rfl)
theorem dX4_init_162 : decode cX4_init 162 = .ok (.bipush 12, 2) := dk_16 12 (dk_at dksX4_init_6 22 rfl rfl)
theorem dX4_init_164 : decode cX4_init 164 = .ok (.newarray .int, 2) := dk_188_10 (dk_at dksX4_init_7 0 rfl rfl)
theorem dX4_init_166 : decode cX4_init 166 = .ok (.putfield 176, 3) := dk_181 0 176 (dk_at dksX4_init_7 2 rfl rfl)
theorem dX4_init_169 : decode cX4_init 169 = .ok (.aload_n 0, 1) := dk_42 (dk_at dksX4_init_7 5 rfl rfl)
theorem dX4_init_170 : decode cX4_init 170 = .ok (.bipush 12, 2) := dk_16 12 (dk_at dksX4_init_7 6 rfl rfl)
theorem dX4_init_172 : decode cX4_init 172 = .ok (.newarray .int, 2) := dk_188_10 (dk_at dksX4_init_7 8 rfl rfl)
theorem dX4_init_174 : decode cX4_init 174 = .ok (.putfield 179, 3) := dk_181 0 179 (dk_at dksX4_init_7 10 rfl rfl)
theorem dX4_init_177 : decode cX4_init 177 = .ok (.aload_n 0, 1) := dk_42 (dk_at dksX4_init_7 13 rfl rfl)
theorem dX4_init_178 : decode cX4_init 178 = .ok (.bipush 41, 2) := dk_16 41 (dk_at dksX4_init_7 14 rfl rfl)
theorem dX4_init_180 : decode cX4_init 180 = .ok (.newarray .int, 2) := dk_188_10 (dk_at dksX4_init_7 16 rfl rfl)
theorem dX4_init_182 : decode cX4_init 182 = .ok (.putfield 182, 3) := dk_181 0 182 (dk_at dksX4_init_7 18 rfl rfl)
theorem dX4_init_185 : decode cX4_init 185 = .ok (.aload_n 0, 1) := dk_42 (dk_at dksX4_init_7 21 rfl rfl)
theorem dX4_init_186 : decode cX4_init 186 = .ok (.bipush 80, 2) := dk_16 80 (dk_at dksX4_init_7 22 rfl rfl)
theorem dX4_init_188 : decode cX4_init 188 = .ok (.newarray .int, 2) := dk_188_10 (dk_at dksX4_init_8 0 rfl rfl)
theorem dX4_init_190 : decode cX4_init 190 = .ok (.putfield 185, 3) := dk_181 0 185 (dk_at dksX4_init_8 2 rfl rfl)
theorem dX4_init_193 : decode cX4_init 193 = .ok (.aload_n 0, 1) := dk_42 (dk_at dksX4_init_8 5 rfl rfl)
theorem dX4_init_194 : decode cX4_init 194 = .ok (.iconst 2, 1) := dk_5 (dk_at dksX4_init_8 6 rfl rfl)
theorem dX4_init_195 : decode cX4_init 195 = .ok (.newarray .boolean, 2) := dk_188_4 (dk_at dksX4_init_8 7 rfl rfl)
theorem dX4_init_197 : decode cX4_init 197 = .ok (.putfield 188, 3) := dk_181 0 188 (dk_at dksX4_init_8 9 rfl rfl)
theorem dX4_init_200 : decode cX4_init 200 = .ok (.aload_n 0, 1) := dk_42 (dk_at dksX4_init_8 12 rfl rfl)
theorem dX4_init_201 : decode cX4_init 201 = .ok (.iconst 2, 1) := dk_5 (dk_at dksX4_init_8 13 rfl rfl)
theorem dX4_init_202 : decode cX4_init 202 = .ok (.newarray .int, 2) := dk_188_10 (dk_at dksX4_init_8 14 rfl rfl)
theorem dX4_init_204 : decode cX4_init 204 = .ok (.putfield 192, 3) := dk_181 0 192 (dk_at dksX4_init_8 16 rfl rfl)
theorem dX4_init_207 : decode cX4_init 207 = .ok (.aload_n 0, 1) := dk_42 (dk_at dksX4_init_8 19 rfl rfl)
theorem dX4_init_208 : decode cX4_init 208 = .ok (.sipush 1688, 3) := dk_17 6 152 (dk_at dksX4_init_8 20 rfl rfl)
theorem dX4_init_211 : decode cX4_init 211 = .ok (.newarray .int, 2) := dk_188_10 (dk_at dksX4_init_9 0 rfl rfl)
theorem dX4_init_213 : decode cX4_init 213 = .ok (.putfield 195, 3) := dk_181 0 195 (dk_at dksX4_init_9 2 rfl rfl)
theorem dX4_init_216 : decode cX4_init 216 = .ok (.iconst 1, 1) := dk_4 (dk_at dksX4_init_9 5 rfl rfl)
theorem dX4_init_217 : decode cX4_init 217 = .ok (.istore_n 1, 1) := dk_60 (dk_at dksX4_init_9 6 rfl rfl)
theorem dX4_init_218 : decode cX4_init 218 = .ok (.iload_n 1, 1) := dk_27 (dk_at dksX4_init_9 7 rfl rfl)
theorem dX4_init_219 : decode cX4_init 219 = .ok (.iconst 4, 1) := dk_7 (dk_at dksX4_init_9 8 rfl rfl)
theorem dX4_init_220 : decode cX4_init 220 = .ok (.if_icmp .ge 35, 3) := dk_162 0 35 (dk_at dksX4_init_9 9 rfl rfl)
theorem dX4_init_223 : decode cX4_init 223 = .ok (.aload_n 0, 1) := dk_42 (dk_at dksX4_init_9 12 rfl rfl)
theorem dX4_init_224 : decode cX4_init 224 = .ok (.getfield 146, 3) := dk_180 0 146 (dk_at dksX4_init_9 13 rfl rfl)
theorem dX4_init_227 : decode cX4_init 227 = .ok (.sipush 814, 3) := dk_17 3 46 (dk_at dksX4_init_9 16 rfl rfl)
theorem dX4_init_230 : decode cX4_init 230 = .ok (.iload_n 1, 1) := dk_27 (dk_at dksX4_init_9 19 rfl rfl)
theorem dX4_init_231 : decode cX4_init 231 = .ok (.iadd, 1) := dk_96 (dk_at dksX4_init_9 20 rfl rfl)
theorem dX4_init_232 : decode cX4_init 232 = .ok (.iconst 4, 1) := dk_7 (dk_at dksX4_init_9 21 rfl rfl)
theorem dX4_init_233 : decode cX4_init 233 = .ok (.iload_n 1, 1) := dk_27 (dk_at dksX4_init_9 22 rfl rfl)
theorem dX4_init_234 : decode cX4_init 234 = .ok (.isub, 1) := dk_100 (dk_at dksX4_init_9 23 rfl rfl)
theorem dX4_init_235 : decode cX4_init 235 = .ok (.iastore, 1) := dk_79 (dk_at dksX4_init_10 0 rfl rfl)
theorem dX4_init_236 : decode cX4_init 236 = .ok (.aload_n 0, 1) := dk_42 (dk_at dksX4_init_10 1 rfl rfl)
theorem dX4_init_237 : decode cX4_init 237 = .ok (.getfield 146, 3) := dk_180 0 146 (dk_at dksX4_init_10 2 rfl rfl)
theorem dX4_init_240 : decode cX4_init 240 = .ok (.sipush 818, 3) := dk_17 3 50 (dk_at dksX4_init_10 5 rfl rfl)
theorem dX4_init_243 : decode cX4_init 243 = .ok (.iload_n 1, 1) := dk_27 (dk_at dksX4_init_10 8 rfl rfl)
theorem dX4_init_244 : decode cX4_init 244 = .ok (.iadd, 1) := dk_96 (dk_at dksX4_init_10 9 rfl rfl)
theorem dX4_init_245 : decode cX4_init 245 = .ok (.iconst 4, 1) := dk_7 (dk_at dksX4_init_10 10 rfl rfl)
theorem dX4_init_246 : decode cX4_init 246 = .ok (.iload_n 1, 1) := dk_27 (dk_at dksX4_init_10 11 rfl rfl)
theorem dX4_init_247 : decode cX4_init 247 = .ok (.isub, 1) := dk_100 (dk_at dksX4_init_10 12 rfl rfl)
theorem dX4_init_248 : decode cX4_init 248 = .ok (.iastore, 1) := dk_79 (dk_at dksX4_init_10 13 rfl rfl)
theorem dX4_init_249 : decode cX4_init 249 = .ok (.iinc 1 1, 3) := dk_132 1 1 (dk_at dksX4_init_10 14 rfl rfl)
theorem dX4_init_252 : decode cX4_init 252 = .ok (.goto (-34), 3) := dk_167 255 222 (dk_at dksX4_init_10 17 rfl rfl)
theorem dX4_init_255 : decode cX4_init 255 = .ok (.iconst 0, 1) := dk_3 (dk_at dksX4_init_10 20 rfl rfl)
theorem dX4_init_256 : decode cX4_init 256 = .ok (.istore_n 1, 1) := dk_60 (dk_at dksX4_init_10 21 rfl rfl)
theorem dX4_init_257 : decode cX4_init 257 = .ok (.iload_n 1, 1) := dk_27 (dk_at dksX4_init_10 22 rfl rfl)
theorem dX4_init_258 : decode cX4_init 258 = .ok (.iconst 4, 1) := dk_7 (dk_at dksX4_init_10 23 rfl rfl)
theorem dX4_init_259 : decode cX4_init 259 = .ok (.if_icmp .ge 20, 3) := dk_162 0 20 (dk_at dksX4_init_11 0 rfl rfl)
theorem dX4_init_262 : decode cX4_init 262 = .ok (.aload_n 0, 1) := dk_42 (dk_at dksX4_init_11 3 rfl rfl)
theorem dX4_init_263 : decode cX4_init 263 = .ok (.getfield 146, 3) := dk_180 0 146 (dk_at dksX4_init_11 4 rfl rfl)
theorem dX4_init_266 : decode cX4_init 266 = .ok (.sipush 822, 3) := dk_17 3 54 (dk_at dksX4_init_11 7 rfl rfl)
theorem dX4_init_269 : decode cX4_init 269 = .ok (.iload_n 1, 1) := dk_27 (dk_at dksX4_init_11 10 rfl rfl)
theorem dX4_init_270 : decode cX4_init 270 = .ok (.iadd, 1) := dk_96 (dk_at dksX4_init_11 11 rfl rfl)
theorem dX4_init_271 : decode cX4_init 271 = .ok (.iconst 4, 1) := dk_7 (dk_at dksX4_init_11 12 rfl rfl)
theorem dX4_init_272 : decode cX4_init 272 = .ok (.iastore, 1) := dk_79 (dk_at dksX4_init_11 13 rfl rfl)
theorem dX4_init_273 : decode cX4_init 273 = .ok (.iinc 1 1, 3) := dk_132 1 1 (dk_at dksX4_init_11 14 rfl rfl)
theorem dX4_init_276 : decode cX4_init 276 = .ok (.goto (-19), 3) := dk_167 255 237 (dk_at dksX4_init_11 17 rfl rfl)
theorem dX4_init_279 : decode cX4_init 279 = .ok (.aload_n 0, 1) := dk_42 (dk_at dksX4_init_11 20 rfl rfl)
theorem dX4_init_280 : decode cX4_init 280 = .ok (.getfield 146, 3) := dk_180 0 146 (dk_at dksX4_init_11 21 rfl rfl)
theorem dX4_init_283 : decode cX4_init 283 = .ok (.sipush 826, 3) := dk_17 3 58 (dk_at dksX4_init_12 0 rfl rfl)
theorem dX4_init_286 : decode cX4_init 286 = .ok (.iconst 2, 1) := dk_5 (dk_at dksX4_init_12 3 rfl rfl)
theorem dX4_init_287 : decode cX4_init 287 = .ok (.iastore, 1) := dk_79 (dk_at dksX4_init_12 4 rfl rfl)
theorem dX4_init_288 : decode cX4_init 288 = .ok (.return_, 1) := dk_177 (dk_at dksX4_init_12 5 rfl rfl)
abbrev cX4_queues : ByteArray := prog_13_method_30_code
def yX4_queues : MethodName := ⟨RX4, "queues", "()I"⟩
def dkwX4_queues_7 : List UInt8 := [4, 96, 181, 0, 209, 42, 180, 0, 198, 4, 100, 172]
abbrev dktX4_queues_7 : List UInt8 := dkwX4_queues_7 ++ []
def dkwX4_queues_6 : List UInt8 := [184, 0, 40, 79, 42, 89, 180, 0, 198, 4, 96, 181, 0, 198, 42, 3, 181, 0, 206, 42, 89, 180, 0, 209]
abbrev dktX4_queues_6 : List UInt8 := dkwX4_queues_6 ++ dktX4_queues_7
def dkwX4_queues_5 : List UInt8 := [28, 79, 42, 180, 0, 140, 42, 180, 0, 198, 29, 79, 42, 180, 0, 143, 42, 180, 0, 198, 21, 4]
abbrev dktX4_queues_5 : List UInt8 := dkwX4_queues_5 ++ dktX4_queues_6
def dkwX4_queues_4 : List UInt8 := [160, 0, 6, 16, 156, 172, 42, 180, 0, 134, 42, 180, 0, 198, 27, 79, 42, 180, 0, 137, 42, 180, 0, 198]
abbrev dktX4_queues_4 : List UInt8 := dkwX4_queues_4 ++ dktX4_queues_5
def dkwX4_queues_3 : List UInt8 := [180, 0, 25, 42, 180, 0, 37, 162, 0, 10, 2, 42, 180, 0, 25, 100, 172, 42, 180, 0, 198, 8]
abbrev dktX4_queues_3 : List UInt8 := dkwX4_queues_3 ++ dktX4_queues_4
def dkwX4_queues_2 : List UInt8 := [182, 0, 85, 62, 29, 156, 0, 10, 2, 42, 180, 0, 25, 100, 172, 42, 16, 115, 182, 0, 72, 54, 4, 42]
abbrev dktX4_queues_2 : List UInt8 := dkwX4_queues_2 ++ dktX4_queues_3
def dkwX4_queues_1 : List UInt8 := [2, 167, 0, 10, 42, 5, 16, 8, 182, 0, 201, 61, 28, 156, 0, 7, 2, 167, 0, 9, 42, 18, 204]
abbrev dktX4_queues_1 : List UInt8 := dkwX4_queues_1 ++ dktX4_queues_2
def dkwX4_queues_0 : List UInt8 := [42, 3, 181, 0, 3, 42, 16, 80, 182, 0, 98, 87, 42, 5, 16, 8, 182, 0, 201, 60, 27, 156, 0, 7]
abbrev dktX4_queues_0 : List UInt8 := dkwX4_queues_0 ++ dktX4_queues_1
theorem dksX4_queues_0 : cX4_queues.data.toList.drop 0 = dktX4_queues_0 := by decide +kernel
theorem dksX4_queues_1 : cX4_queues.data.toList.drop 24 = dktX4_queues_1 := dk_seg dksX4_queues_0 24 rfl rfl
theorem dksX4_queues_2 : cX4_queues.data.toList.drop 47 = dktX4_queues_2 := dk_seg dksX4_queues_1 23 rfl rfl
theorem dksX4_queues_3 : cX4_queues.data.toList.drop 71 = dktX4_queues_3 := dk_seg dksX4_queues_2 24 rfl rfl
theorem dksX4_queues_4 : cX4_queues.data.toList.drop 93 = dktX4_queues_4 := dk_seg dksX4_queues_3 22 rfl rfl
theorem dksX4_queues_5 : cX4_queues.data.toList.drop 117 = dktX4_queues_5 := dk_seg dksX4_queues_4 24 rfl rfl
theorem dksX4_queues_6 : cX4_queues.data.toList.drop 139 = dktX4_queues_6 := dk_seg dksX4_queues_5 22 rfl rfl
theorem dksX4_queues_7 : cX4_queues.data.toList.drop 163 = dktX4_queues_7 := dk_seg dksX4_queues_6 24 rfl rfl
theorem dX4_queues_0 : decode cX4_queues 0 = .ok (.aload_n 0, 1) := dk_42 (dk_at dksX4_queues_0 0 rfl rfl)
theorem dX4_queues_1 : decode cX4_queues 1 = .ok (.iconst 0, 1) := dk_3 (dk_at dksX4_queues_0 1 rfl rfl)
theorem dX4_queues_2 : decode cX4_queues 2 = .ok (.putfield 3, 3) := dk_181 0 3 (dk_at dksX4_queues_0 2 rfl rfl)
theorem dX4_queues_5 : decode cX4_queues 5 = .ok (.aload_n 0, 1) := dk_42 (dk_at dksX4_queues_0 5 rfl rfl)
theorem dX4_queues_6 : decode cX4_queues 6 = .ok (.bipush 80, 2) := dk_16 80 (dk_at dksX4_queues_0 6 rfl rfl)
theorem dX4_queues_8 : decode cX4_queues 8 = .ok (.invokevirtual 98, 3) := dk_182 0 98 (dk_at dksX4_queues_0 8 rfl rfl)
theorem dX4_queues_11 : decode cX4_queues 11 = .ok (.pop, 1) := dk_87 (dk_at dksX4_queues_0 11 rfl rfl)
theorem dX4_queues_12 : decode cX4_queues 12 = .ok (.aload_n 0, 1) := dk_42 (dk_at dksX4_queues_0 12 rfl rfl)
theorem dX4_queues_13 : decode cX4_queues 13 = .ok (.iconst 2, 1) := dk_5 (dk_at dksX4_queues_0 13 rfl rfl)
theorem dX4_queues_14 : decode cX4_queues 14 = .ok (.bipush 8, 2) := dk_16 8 (dk_at dksX4_queues_0 14 rfl rfl)
theorem dX4_queues_16 : decode cX4_queues 16 = .ok (.invokevirtual 201, 3) := dk_182 0 201 (dk_at dksX4_queues_0 16 rfl rfl)
theorem dX4_queues_19 : decode cX4_queues 19 = .ok (.istore_n 1, 1) := dk_60 (dk_at dksX4_queues_0 19 rfl rfl)
theorem dX4_queues_20 : decode cX4_queues 20 = .ok (.iload_n 1, 1) := dk_27 (dk_at dksX4_queues_0 20 rfl rfl)
theorem dX4_queues_21 : decode cX4_queues 21 = .ok (.ifCond .ge 7, 3) := dk_156 0 7 (dk_at dksX4_queues_0 21 rfl rfl)
theorem dX4_queues_24 : decode cX4_queues 24 = .ok (.iconst (-1), 1) := dk_2 (dk_at dksX4_queues_1 0 rfl rfl)
theorem dX4_queues_25 : decode cX4_queues 25 = .ok (.goto 10, 3) := dk_167 0 10 (dk_at dksX4_queues_1 1 rfl rfl)
theorem dX4_queues_28 : decode cX4_queues 28 = .ok (.aload_n 0, 1) := dk_42 (dk_at dksX4_queues_1 4 rfl rfl)
theorem dX4_queues_29 : decode cX4_queues 29 = .ok (.iconst 2, 1) := dk_5 (dk_at dksX4_queues_1 5 rfl rfl)
theorem dX4_queues_30 : decode cX4_queues 30 = .ok (.bipush 8, 2) := dk_16 8 (dk_at dksX4_queues_1 6 rfl rfl)
theorem dX4_queues_32 : decode cX4_queues 32 = .ok (.invokevirtual 201, 3) := dk_182 0 201 (dk_at dksX4_queues_1 8 rfl rfl)
theorem dX4_queues_35 : decode cX4_queues 35 = .ok (.istore_n 2, 1) := dk_61 (dk_at dksX4_queues_1 11 rfl rfl)
theorem dX4_queues_36 : decode cX4_queues 36 = .ok (.iload_n 2, 1) := dk_28 (dk_at dksX4_queues_1 12 rfl rfl)
theorem dX4_queues_37 : decode cX4_queues 37 = .ok (.ifCond .ge 7, 3) := dk_156 0 7 (dk_at dksX4_queues_1 13 rfl rfl)
theorem dX4_queues_40 : decode cX4_queues 40 = .ok (.iconst (-1), 1) := dk_2 (dk_at dksX4_queues_1 16 rfl rfl)
theorem dX4_queues_41 : decode cX4_queues 41 = .ok (.goto 9, 3) := dk_167 0 9 (dk_at dksX4_queues_1 17 rfl rfl)
theorem dX4_queues_44 : decode cX4_queues 44 = .ok (.aload_n 0, 1) := dk_42 (dk_at dksX4_queues_1 20 rfl rfl)
theorem dX4_queues_45 : decode cX4_queues 45 = .ok (.ldc 204, 2) := dk_18 204 (dk_at dksX4_queues_1 21 rfl rfl)
theorem dX4_queues_47 : decode cX4_queues 47 = .ok (.invokevirtual 85, 3) := dk_182 0 85 (dk_at dksX4_queues_2 0 rfl rfl)
theorem dX4_queues_50 : decode cX4_queues 50 = .ok (.istore_n 3, 1) := dk_62 (dk_at dksX4_queues_2 3 rfl rfl)
theorem dX4_queues_51 : decode cX4_queues 51 = .ok (.iload_n 3, 1) := dk_29 (dk_at dksX4_queues_2 4 rfl rfl)
theorem dX4_queues_52 : decode cX4_queues 52 = .ok (.ifCond .ge 10, 3) := dk_156 0 10 (dk_at dksX4_queues_2 5 rfl rfl)
theorem dX4_queues_55 : decode cX4_queues 55 = .ok (.iconst (-1), 1) := dk_2 (dk_at dksX4_queues_2 8 rfl rfl)
theorem dX4_queues_56 : decode cX4_queues 56 = .ok (.aload_n 0, 1) := dk_42 (dk_at dksX4_queues_2 9 rfl rfl)
theorem dX4_queues_57 : decode cX4_queues 57 = .ok (.getfield 25, 3) := dk_180 0 25 (dk_at dksX4_queues_2 10 rfl rfl)
theorem dX4_queues_60 : decode cX4_queues 60 = .ok (.isub, 1) := dk_100 (dk_at dksX4_queues_2 13 rfl rfl)
theorem dX4_queues_61 : decode cX4_queues 61 = .ok (.ireturn, 1) := dk_172 (dk_at dksX4_queues_2 14 rfl rfl)
theorem dX4_queues_62 : decode cX4_queues 62 = .ok (.aload_n 0, 1) := dk_42 (dk_at dksX4_queues_2 15 rfl rfl)
theorem dX4_queues_63 : decode cX4_queues 63 = .ok (.bipush 115, 2) := dk_16 115 (dk_at dksX4_queues_2 16 rfl rfl)
theorem dX4_queues_65 : decode cX4_queues 65 = .ok (.invokevirtual 72, 3) := dk_182 0 72 (dk_at dksX4_queues_2 18 rfl rfl)
theorem dX4_queues_68 : decode cX4_queues 68 = .ok (.istore 4, 2) := dk_54 4 (dk_at dksX4_queues_2 21 rfl rfl)
theorem dX4_queues_70 : decode cX4_queues 70 = .ok (.aload_n 0, 1) := dk_42 (dk_at dksX4_queues_2 23 rfl rfl)
theorem dX4_queues_71 : decode cX4_queues 71 = .ok (.getfield 25, 3) := dk_180 0 25 (dk_at dksX4_queues_3 0 rfl rfl)
theorem dX4_queues_74 : decode cX4_queues 74 = .ok (.aload_n 0, 1) := dk_42 (dk_at dksX4_queues_3 3 rfl rfl)
theorem dX4_queues_75 : decode cX4_queues 75 = .ok (.getfield 37, 3) := dk_180 0 37 (dk_at dksX4_queues_3 4 rfl rfl)
theorem dX4_queues_78 : decode cX4_queues 78 = .ok (.if_icmp .ge 10, 3) := dk_162 0 10 (dk_at dksX4_queues_3 7 rfl rfl)
theorem dX4_queues_81 : decode cX4_queues 81 = .ok (.iconst (-1), 1) := dk_2 (dk_at dksX4_queues_3 10 rfl rfl)
theorem dX4_queues_82 : decode cX4_queues 82 = .ok (.aload_n 0, 1) := dk_42 (dk_at dksX4_queues_3 11 rfl rfl)
theorem dX4_queues_83 : decode cX4_queues 83 = .ok (.getfield 25, 3) := dk_180 0 25 (dk_at dksX4_queues_3 12 rfl rfl)
theorem dX4_queues_86 : decode cX4_queues 86 = .ok (.isub, 1) := dk_100 (dk_at dksX4_queues_3 15 rfl rfl)
theorem dX4_queues_87 : decode cX4_queues 87 = .ok (.ireturn, 1) := dk_172 (dk_at dksX4_queues_3 16 rfl rfl)
theorem dX4_queues_88 : decode cX4_queues 88 = .ok (.aload_n 0, 1) := dk_42 (dk_at dksX4_queues_3 17 rfl rfl)
theorem dX4_queues_89 : decode cX4_queues 89 = .ok (.getfield 198, 3) := dk_180 0 198 (dk_at dksX4_queues_3 18 rfl rfl)
theorem dX4_queues_92 : decode cX4_queues 92 = .ok (.iconst 5, 1) := dk_8 (dk_at dksX4_queues_3 21 rfl rfl)
theorem dX4_queues_93 : decode cX4_queues 93 = .ok (.if_icmp .ne 6, 3) := dk_160 0 6 (dk_at dksX4_queues_4 0 rfl rfl)
theorem dX4_queues_96 : decode cX4_queues 96 = .ok (.bipush (-100), 2) := dk_16 156 (dk_at dksX4_queues_4 3 rfl rfl)
theorem dX4_queues_98 : decode cX4_queues 98 = .ok (.ireturn, 1) := dk_172 (dk_at dksX4_queues_4 5 rfl rfl)
theorem dX4_queues_99 : decode cX4_queues 99 = .ok (.aload_n 0, 1) := dk_42 (dk_at dksX4_queues_4 6 rfl rfl)
theorem dX4_queues_100 : decode cX4_queues 100 = .ok (.getfield 134, 3) := dk_180 0 134 (dk_at dksX4_queues_4 7 rfl rfl)
theorem dX4_queues_103 : decode cX4_queues 103 = .ok (.aload_n 0, 1) := dk_42 (dk_at dksX4_queues_4 10 rfl rfl)
theorem dX4_queues_104 : decode cX4_queues 104 = .ok (.getfield 198, 3) := dk_180 0 198 (dk_at dksX4_queues_4 11 rfl rfl)
theorem dX4_queues_107 : decode cX4_queues 107 = .ok (.iload_n 1, 1) := dk_27 (dk_at dksX4_queues_4 14 rfl rfl)
theorem dX4_queues_108 : decode cX4_queues 108 = .ok (.iastore, 1) := dk_79 (dk_at dksX4_queues_4 15 rfl rfl)
theorem dX4_queues_109 : decode cX4_queues 109 = .ok (.aload_n 0, 1) := dk_42 (dk_at dksX4_queues_4 16 rfl rfl)
theorem dX4_queues_110 : decode cX4_queues 110 = .ok (.getfield 137, 3) := dk_180 0 137 (dk_at dksX4_queues_4 17 rfl rfl)
theorem dX4_queues_113 : decode cX4_queues 113 = .ok (.aload_n 0, 1) := dk_42 (dk_at dksX4_queues_4 20 rfl rfl)
theorem dX4_queues_114 : decode cX4_queues 114 = .ok (.getfield 198, 3) := dk_180 0 198 (dk_at dksX4_queues_4 21 rfl rfl)
theorem dX4_queues_117 : decode cX4_queues 117 = .ok (.iload_n 2, 1) := dk_28 (dk_at dksX4_queues_5 0 rfl rfl)
theorem dX4_queues_118 : decode cX4_queues 118 = .ok (.iastore, 1) := dk_79 (dk_at dksX4_queues_5 1 rfl rfl)
theorem dX4_queues_119 : decode cX4_queues 119 = .ok (.aload_n 0, 1) := dk_42 (dk_at dksX4_queues_5 2 rfl rfl)
theorem dX4_queues_120 : decode cX4_queues 120 = .ok (.getfield 140, 3) := dk_180 0 140 (dk_at dksX4_queues_5 3 rfl rfl)
theorem dX4_queues_123 : decode cX4_queues 123 = .ok (.aload_n 0, 1) := dk_42 (dk_at dksX4_queues_5 6 rfl rfl)
theorem dX4_queues_124 : decode cX4_queues 124 = .ok (.getfield 198, 3) := dk_180 0 198 (dk_at dksX4_queues_5 7 rfl rfl)
theorem dX4_queues_127 : decode cX4_queues 127 = .ok (.iload_n 3, 1) := dk_29 (dk_at dksX4_queues_5 10 rfl rfl)
theorem dX4_queues_128 : decode cX4_queues 128 = .ok (.iastore, 1) := dk_79 (dk_at dksX4_queues_5 11 rfl rfl)
theorem dX4_queues_129 : decode cX4_queues 129 = .ok (.aload_n 0, 1) := dk_42 (dk_at dksX4_queues_5 12 rfl rfl)
theorem dX4_queues_130 : decode cX4_queues 130 = .ok (.getfield 143, 3) := dk_180 0 143 (dk_at dksX4_queues_5 13 rfl rfl)
theorem dX4_queues_133 : decode cX4_queues 133 = .ok (.aload_n 0, 1) := dk_42 (dk_at dksX4_queues_5 16 rfl rfl)
theorem dX4_queues_134 : decode cX4_queues 134 = .ok (.getfield 198, 3) := dk_180 0 198 (dk_at dksX4_queues_5 17 rfl rfl)
theorem dX4_queues_137 : decode cX4_queues 137 = .ok (.iload 4, 2) := dk_21 4 (dk_at dksX4_queues_5 20 rfl rfl)
theorem dX4_queues_139 : decode cX4_queues 139 = .ok (.invokestatic 40, 3) := dk_184 0 40 (dk_at dksX4_queues_6 0 rfl rfl)
theorem dX4_queues_142 : decode cX4_queues 142 = .ok (.iastore, 1) := dk_79 (dk_at dksX4_queues_6 3 rfl rfl)
theorem dX4_queues_143 : decode cX4_queues 143 = .ok (.aload_n 0, 1) := dk_42 (dk_at dksX4_queues_6 4 rfl rfl)
theorem dX4_queues_144 : decode cX4_queues 144 = .ok (.dup, 1) := dk_89 (dk_at dksX4_queues_6 5 rfl rfl)
theorem dX4_queues_145 : decode cX4_queues 145 = .ok (.getfield 198, 3) := dk_180 0 198 (dk_at dksX4_queues_6 6 rfl rfl)
theorem dX4_queues_148 : decode cX4_queues 148 = .ok (.iconst 1, 1) := dk_4 (dk_at dksX4_queues_6 9 rfl rfl)
theorem dX4_queues_149 : decode cX4_queues 149 = .ok (.iadd, 1) := dk_96 (dk_at dksX4_queues_6 10 rfl rfl)
theorem dX4_queues_150 : decode cX4_queues 150 = .ok (.putfield 198, 3) := dk_181 0 198 (dk_at dksX4_queues_6 11 rfl rfl)
theorem dX4_queues_153 : decode cX4_queues 153 = .ok (.aload_n 0, 1) := dk_42 (dk_at dksX4_queues_6 14 rfl rfl)
theorem dX4_queues_154 : decode cX4_queues 154 = .ok (.iconst 0, 1) := dk_3 (dk_at dksX4_queues_6 15 rfl rfl)
theorem dX4_queues_155 : decode cX4_queues 155 = .ok (.putfield 206, 3) := dk_181 0 206 (dk_at dksX4_queues_6 16 rfl rfl)
theorem dX4_queues_158 : decode cX4_queues 158 = .ok (.aload_n 0, 1) := dk_42 (dk_at dksX4_queues_6 19 rfl rfl)
theorem dX4_queues_159 : decode cX4_queues 159 = .ok (.dup, 1) := dk_89 (dk_at dksX4_queues_6 20 rfl rfl)
theorem dX4_queues_160 : decode cX4_queues 160 = .ok (.getfield 209, 3) := dk_180 0 209 (dk_at dksX4_queues_6 21 rfl rfl)
theorem dX4_queues_163 : decode cX4_queues 163 = .ok (.iconst 1, 1) := dk_4 (dk_at dksX4_queues_7 0 rfl rfl)
theorem dX4_queues_164 : decode cX4_queues 164 = .ok (.iadd, 1) := dk_96 (dk_at dksX4_queues_7 1 rfl rfl)
theorem dX4_queues_165 : decode cX4_queues 165 = .ok (.putfield 209, 3) := dk_181 0 209 (dk_at dksX4_queues_7 2 rfl rfl)
theorem dX4_queues_168 : decode cX4_queues 168 = .ok (.aload_n 0, 1) := dk_42 (dk_at dksX4_queues_7 5 rfl rfl)
theorem dX4_queues_169 : decode cX4_queues 169 = .ok (.getfield 198, 3) := dk_180 0 198 (dk_at dksX4_queues_7 6 rfl rfl)
theorem dX4_queues_172 : decode cX4_queues 172 = .ok (.iconst 1, 1) := dk_4 (dk_at dksX4_queues_7 9 rfl rfl)
theorem dX4_queues_173 : decode cX4_queues 173 = .ok (.isub, 1) := dk_100 (dk_at dksX4_queues_7 10 rfl rfl)
theorem dX4_queues_174 : decode cX4_queues 174 = .ok (.ireturn, 1) := dk_172 (dk_at dksX4_queues_7 11 rfl rfl)
abbrev cX4_digitIn : ByteArray := prog_13_method_14_code
def yX4_digitIn : MethodName := ⟨RX4, "digitIn", "(II)I"⟩
def dkwX4_digitIn_2 : List UInt8 := [180, 0, 17, 42, 180, 0, 25, 4, 100, 46, 16, 48, 100, 172]
abbrev dktX4_digitIn_2 : List UInt8 := dkwX4_digitIn_2 ++ []
def dkwX4_digitIn_1 : List UInt8 := [27, 133, 28, 133, 184, 0, 21, 154, 0, 5, 2, 172, 42, 89, 180, 0, 25, 4, 96, 181, 0, 25, 42]
abbrev dktX4_digitIn_1 : List UInt8 := dkwX4_digitIn_1 ++ dktX4_digitIn_2
def dkwX4_digitIn_0 : List UInt8 := [42, 180, 0, 25, 42, 180, 0, 37, 162, 0, 26, 42, 180, 0, 17, 42, 180, 0, 25, 46, 16, 48, 100, 133]
abbrev dktX4_digitIn_0 : List UInt8 := dkwX4_digitIn_0 ++ dktX4_digitIn_1
theorem dksX4_digitIn_0 : cX4_digitIn.data.toList.drop 0 = dktX4_digitIn_0 := by decide +kernel
theorem dksX4_digitIn_1 : cX4_digitIn.data.toList.drop 24 = dktX4_digitIn_1 := dk_seg dksX4_digitIn_0 24 rfl rfl
theorem dksX4_digitIn_2 : cX4_digitIn.data.toList.drop 47 = dktX4_digitIn_2 := dk_seg dksX4_digitIn_1 23 rfl rfl
theorem dX4_digitIn_0 : decode cX4_digitIn 0 = .ok (.aload_n 0, 1) := dk_42 (dk_at dksX4_digitIn_0 0 rfl rfl)
theorem dX4_digitIn_1 : decode cX4_digitIn 1 = .ok (.getfield 25, 3) := dk_180 0 25 (dk_at dksX4_digitIn_0 1 rfl rfl)
theorem dX4_digitIn_4 : decode cX4_digitIn 4 = .ok (.aload_n 0, 1) := dk_42 (dk_at dksX4_digitIn_0 4 rfl rfl)
theorem dX4_digitIn_5 : decode cX4_digitIn 5 = .ok (.getfield 37, 3) := dk_180 0 37 (dk_at dksX4_digitIn_0 5 rfl rfl)
theorem dX4_digitIn_8 : decode cX4_digitIn 8 = .ok (.if_icmp .ge 26, 3) := dk_162 0 26 (dk_at dksX4_digitIn_0 8 rfl rfl)
theorem dX4_digitIn_11 : decode cX4_digitIn 11 = .ok (.aload_n 0, 1) := dk_42 (dk_at dksX4_digitIn_0 11 rfl rfl)
theorem dX4_digitIn_12 : decode cX4_digitIn 12 = .ok (.getfield 17, 3) := dk_180 0 17 (dk_at dksX4_digitIn_0 12 rfl rfl)
theorem dX4_digitIn_15 : decode cX4_digitIn 15 = .ok (.aload_n 0, 1) := dk_42 (dk_at dksX4_digitIn_0 15 rfl rfl)
theorem dX4_digitIn_16 : decode cX4_digitIn 16 = .ok (.getfield 25, 3) := dk_180 0 25 (dk_at dksX4_digitIn_0 16 rfl rfl)
theorem dX4_digitIn_19 : decode cX4_digitIn 19 = .ok (.iaload, 1) := dk_46 (dk_at dksX4_digitIn_0 19 rfl rfl)
theorem dX4_digitIn_20 : decode cX4_digitIn 20 = .ok (.bipush 48, 2) := dk_16 48 (dk_at dksX4_digitIn_0 20 rfl rfl)
theorem dX4_digitIn_22 : decode cX4_digitIn 22 = .ok (.isub, 1) := dk_100 (dk_at dksX4_digitIn_0 22 rfl rfl)
theorem dX4_digitIn_23 : decode cX4_digitIn 23 = .ok (.i2l, 1) := dk_133 (dk_at dksX4_digitIn_0 23 rfl rfl)
theorem dX4_digitIn_24 : decode cX4_digitIn 24 = .ok (.iload_n 1, 1) := dk_27 (dk_at dksX4_digitIn_1 0 rfl rfl)
theorem dX4_digitIn_25 : decode cX4_digitIn 25 = .ok (.i2l, 1) := dk_133 (dk_at dksX4_digitIn_1 1 rfl rfl)
theorem dX4_digitIn_26 : decode cX4_digitIn 26 = .ok (.iload_n 2, 1) := dk_28 (dk_at dksX4_digitIn_1 2 rfl rfl)
theorem dX4_digitIn_27 : decode cX4_digitIn 27 = .ok (.i2l, 1) := dk_133 (dk_at dksX4_digitIn_1 3 rfl rfl)
theorem dX4_digitIn_28 : decode cX4_digitIn 28 = .ok (.invokestatic 21, 3) := dk_184 0 21 (dk_at dksX4_digitIn_1 4 rfl rfl)
theorem dX4_digitIn_31 : decode cX4_digitIn 31 = .ok (.ifCond .ne 5, 3) := dk_154 0 5 (dk_at dksX4_digitIn_1 7 rfl rfl)
theorem dX4_digitIn_34 : decode cX4_digitIn 34 = .ok (.iconst (-1), 1) := dk_2 (dk_at dksX4_digitIn_1 10 rfl rfl)
theorem dX4_digitIn_35 : decode cX4_digitIn 35 = .ok (.ireturn, 1) := dk_172 (dk_at dksX4_digitIn_1 11 rfl rfl)
theorem dX4_digitIn_36 : decode cX4_digitIn 36 = .ok (.aload_n 0, 1) := dk_42 (dk_at dksX4_digitIn_1 12 rfl rfl)
theorem dX4_digitIn_37 : decode cX4_digitIn 37 = .ok (.dup, 1) := dk_89 (dk_at dksX4_digitIn_1 13 rfl rfl)
theorem dX4_digitIn_38 : decode cX4_digitIn 38 = .ok (.getfield 25, 3) := dk_180 0 25 (dk_at dksX4_digitIn_1 14 rfl rfl)
theorem dX4_digitIn_41 : decode cX4_digitIn 41 = .ok (.iconst 1, 1) := dk_4 (dk_at dksX4_digitIn_1 17 rfl rfl)
theorem dX4_digitIn_42 : decode cX4_digitIn 42 = .ok (.iadd, 1) := dk_96 (dk_at dksX4_digitIn_1 18 rfl rfl)
theorem dX4_digitIn_43 : decode cX4_digitIn 43 = .ok (.putfield 25, 3) := dk_181 0 25 (dk_at dksX4_digitIn_1 19 rfl rfl)
theorem dX4_digitIn_46 : decode cX4_digitIn 46 = .ok (.aload_n 0, 1) := dk_42 (dk_at dksX4_digitIn_1 22 rfl rfl)
theorem dX4_digitIn_47 : decode cX4_digitIn 47 = .ok (.getfield 17, 3) := dk_180 0 17 (dk_at dksX4_digitIn_2 0 rfl rfl)
theorem dX4_digitIn_50 : decode cX4_digitIn 50 = .ok (.aload_n 0, 1) := dk_42 (dk_at dksX4_digitIn_2 3 rfl rfl)
theorem dX4_digitIn_51 : decode cX4_digitIn 51 = .ok (.getfield 25, 3) := dk_180 0 25 (dk_at dksX4_digitIn_2 4 rfl rfl)
theorem dX4_digitIn_54 : decode cX4_digitIn 54 = .ok (.iconst 1, 1) := dk_4 (dk_at dksX4_digitIn_2 7 rfl rfl)
theorem dX4_digitIn_55 : decode cX4_digitIn 55 = .ok (.isub, 1) := dk_100 (dk_at dksX4_digitIn_2 8 rfl rfl)
theorem dX4_digitIn_56 : decode cX4_digitIn 56 = .ok (.iaload, 1) := dk_46 (dk_at dksX4_digitIn_2 9 rfl rfl)
theorem dX4_digitIn_57 : decode cX4_digitIn 57 = .ok (.bipush 48, 2) := dk_16 48 (dk_at dksX4_digitIn_2 10 rfl rfl)
theorem dX4_digitIn_59 : decode cX4_digitIn 59 = .ok (.isub, 1) := dk_100 (dk_at dksX4_digitIn_2 12 rfl rfl)
theorem dX4_digitIn_60 : decode cX4_digitIn 60 = .ok (.ireturn, 1) := dk_172 (dk_at dksX4_digitIn_2 13 rfl rfl)
abbrev cX4_queue : ByteArray := prog_13_method_31_code
def yX4_queue : MethodName := ⟨RX4, "queue", "(II)I"⟩
def dkwX4_queue_4 : List UInt8 := [180, 0, 143, 27, 46, 172, 42, 180, 0, 146, 27, 28, 7, 100, 184, 0, 220, 172]
abbrev dktX4_queue_4 : List UInt8 := dkwX4_queue_4 ++ []
def dkwX4_queue_3 : List UInt8 := [42, 180, 0, 134, 27, 46, 172, 42, 180, 0, 137, 27, 46, 172, 42, 180, 0, 140, 27, 46, 172, 42]
abbrev dktX4_queue_3 : List UInt8 := dkwX4_queue_3 ++ dktX4_queue_4
def dkwX4_queue_2 : List UInt8 := [170, 0, 0, 0, 57, 0, 0, 0, 0, 0, 0, 0, 3, 0, 0, 0, 29, 0, 0, 0, 36, 0, 0, 0, 43, 0, 0, 0, 50]
abbrev dktX4_queue_2 : List UInt8 := dkwX4_queue_2 ++ dktX4_queue_3
def dkwX4_queue_1 : List UInt8 := [154, 0, 8, 42, 182, 0, 217, 172, 28]
abbrev dktX4_queue_1 : List UInt8 := dkwX4_queue_1 ++ dktX4_queue_2
def dkwX4_queue_0 : List UInt8 := [42, 3, 181, 0, 3, 42, 27, 182, 0, 212, 153, 0, 15, 28, 133, 9, 20, 0, 215, 184, 0, 21]
abbrev dktX4_queue_0 : List UInt8 := dkwX4_queue_0 ++ dktX4_queue_1
theorem dksX4_queue_0 : cX4_queue.data.toList.drop 0 = dktX4_queue_0 := by decide +kernel
theorem dksX4_queue_1 : cX4_queue.data.toList.drop 22 = dktX4_queue_1 := dk_seg dksX4_queue_0 22 rfl rfl
theorem dksX4_queue_2 : cX4_queue.data.toList.drop 31 = dktX4_queue_2 := dk_seg dksX4_queue_1 9 rfl rfl
theorem dksX4_queue_3 : cX4_queue.data.toList.drop 60 = dktX4_queue_3 := dk_seg dksX4_queue_2 29 rfl rfl
theorem dksX4_queue_4 : cX4_queue.data.toList.drop 82 = dktX4_queue_4 := dk_seg dksX4_queue_3 22 rfl rfl
theorem dX4_queue_0 : decode cX4_queue 0 = .ok (.aload_n 0, 1) := dk_42 (dk_at dksX4_queue_0 0 rfl rfl)
theorem dX4_queue_1 : decode cX4_queue 1 = .ok (.iconst 0, 1) := dk_3 (dk_at dksX4_queue_0 1 rfl rfl)
theorem dX4_queue_2 : decode cX4_queue 2 = .ok (.putfield 3, 3) := dk_181 0 3 (dk_at dksX4_queue_0 2 rfl rfl)
theorem dX4_queue_5 : decode cX4_queue 5 = .ok (.aload_n 0, 1) := dk_42 (dk_at dksX4_queue_0 5 rfl rfl)
theorem dX4_queue_6 : decode cX4_queue 6 = .ok (.iload_n 1, 1) := dk_27 (dk_at dksX4_queue_0 6 rfl rfl)
theorem dX4_queue_7 : decode cX4_queue 7 = .ok (.invokevirtual 212, 3) := dk_182 0 212 (dk_at dksX4_queue_0 7 rfl rfl)
theorem dX4_queue_10 : decode cX4_queue 10 = .ok (.ifCond .eq 15, 3) := dk_153 0 15 (dk_at dksX4_queue_0 10 rfl rfl)
theorem dX4_queue_13 : decode cX4_queue 13 = .ok (.iload_n 2, 1) := dk_28 (dk_at dksX4_queue_0 13 rfl rfl)
theorem dX4_queue_14 : decode cX4_queue 14 = .ok (.i2l, 1) := dk_133 (dk_at dksX4_queue_0 14 rfl rfl)
theorem dX4_queue_15 : decode cX4_queue 15 = .ok (.lconst 0, 1) := dk_9 (dk_at dksX4_queue_0 15 rfl rfl)
theorem dX4_queue_16 : decode cX4_queue 16 = .ok (.ldc2_w 215, 3) := dk_20 0 215 (dk_at dksX4_queue_0 16 rfl rfl)
theorem dX4_queue_19 : decode cX4_queue 19 = .ok (.invokestatic 21, 3) := dk_184 0 21 (dk_at dksX4_queue_0 19 rfl rfl)
theorem dX4_queue_22 : decode cX4_queue 22 = .ok (.ifCond .ne 8, 3) := dk_154 0 8 (dk_at dksX4_queue_1 0 rfl rfl)
theorem dX4_queue_25 : decode cX4_queue 25 = .ok (.aload_n 0, 1) := dk_42 (dk_at dksX4_queue_1 3 rfl rfl)
theorem dX4_queue_26 : decode cX4_queue 26 = .ok (.invokevirtual 217, 3) := dk_182 0 217 (dk_at dksX4_queue_1 4 rfl rfl)
theorem dX4_queue_29 : decode cX4_queue 29 = .ok (.ireturn, 1) := dk_172 (dk_at dksX4_queue_1 7 rfl rfl)
theorem dX4_queue_30 : decode cX4_queue 30 = .ok (.iload_n 2, 1) := dk_28 (dk_at dksX4_queue_1 8 rfl rfl)
theorem dX4_queue_31 : decode cX4_queue 31 = .ok (.tableswitch 57 0 3 #[29, 36, 43, 50], 29) := by decide +kernel
theorem dX4_queue_60 : decode cX4_queue 60 = .ok (.aload_n 0, 1) := dk_42 (dk_at dksX4_queue_3 0 rfl rfl)
theorem dX4_queue_61 : decode cX4_queue 61 = .ok (.getfield 134, 3) := dk_180 0 134 (dk_at dksX4_queue_3 1 rfl rfl)
theorem dX4_queue_64 : decode cX4_queue 64 = .ok (.iload_n 1, 1) := dk_27 (dk_at dksX4_queue_3 4 rfl rfl)
theorem dX4_queue_65 : decode cX4_queue 65 = .ok (.iaload, 1) := dk_46 (dk_at dksX4_queue_3 5 rfl rfl)
theorem dX4_queue_66 : decode cX4_queue 66 = .ok (.ireturn, 1) := dk_172 (dk_at dksX4_queue_3 6 rfl rfl)
theorem dX4_queue_67 : decode cX4_queue 67 = .ok (.aload_n 0, 1) := dk_42 (dk_at dksX4_queue_3 7 rfl rfl)
theorem dX4_queue_68 : decode cX4_queue 68 = .ok (.getfield 137, 3) := dk_180 0 137 (dk_at dksX4_queue_3 8 rfl rfl)
theorem dX4_queue_71 : decode cX4_queue 71 = .ok (.iload_n 1, 1) := dk_27 (dk_at dksX4_queue_3 11 rfl rfl)
theorem dX4_queue_72 : decode cX4_queue 72 = .ok (.iaload, 1) := dk_46 (dk_at dksX4_queue_3 12 rfl rfl)
theorem dX4_queue_73 : decode cX4_queue 73 = .ok (.ireturn, 1) := dk_172 (dk_at dksX4_queue_3 13 rfl rfl)
theorem dX4_queue_74 : decode cX4_queue 74 = .ok (.aload_n 0, 1) := dk_42 (dk_at dksX4_queue_3 14 rfl rfl)
theorem dX4_queue_75 : decode cX4_queue 75 = .ok (.getfield 140, 3) := dk_180 0 140 (dk_at dksX4_queue_3 15 rfl rfl)
theorem dX4_queue_78 : decode cX4_queue 78 = .ok (.iload_n 1, 1) := dk_27 (dk_at dksX4_queue_3 18 rfl rfl)
theorem dX4_queue_79 : decode cX4_queue 79 = .ok (.iaload, 1) := dk_46 (dk_at dksX4_queue_3 19 rfl rfl)
theorem dX4_queue_80 : decode cX4_queue 80 = .ok (.ireturn, 1) := dk_172 (dk_at dksX4_queue_3 20 rfl rfl)
theorem dX4_queue_81 : decode cX4_queue 81 = .ok (.aload_n 0, 1) := dk_42 (dk_at dksX4_queue_3 21 rfl rfl)
theorem dX4_queue_82 : decode cX4_queue 82 = .ok (.getfield 143, 3) := dk_180 0 143 (dk_at dksX4_queue_4 0 rfl rfl)
theorem dX4_queue_85 : decode cX4_queue 85 = .ok (.iload_n 1, 1) := dk_27 (dk_at dksX4_queue_4 3 rfl rfl)
theorem dX4_queue_86 : decode cX4_queue 86 = .ok (.iaload, 1) := dk_46 (dk_at dksX4_queue_4 4 rfl rfl)
theorem dX4_queue_87 : decode cX4_queue 87 = .ok (.ireturn, 1) := dk_172 (dk_at dksX4_queue_4 5 rfl rfl)
theorem dX4_queue_88 : decode cX4_queue 88 = .ok (.aload_n 0, 1) := dk_42 (dk_at dksX4_queue_4 6 rfl rfl)
theorem dX4_queue_89 : decode cX4_queue 89 = .ok (.getfield 146, 3) := dk_180 0 146 (dk_at dksX4_queue_4 7 rfl rfl)
theorem dX4_queue_92 : decode cX4_queue 92 = .ok (.iload_n 1, 1) := dk_27 (dk_at dksX4_queue_4 10 rfl rfl)
theorem dX4_queue_93 : decode cX4_queue 93 = .ok (.iload_n 2, 1) := dk_28 (dk_at dksX4_queue_4 11 rfl rfl)
theorem dX4_queue_94 : decode cX4_queue 94 = .ok (.iconst 4, 1) := dk_7 (dk_at dksX4_queue_4 12 rfl rfl)
theorem dX4_queue_95 : decode cX4_queue 95 = .ok (.isub, 1) := dk_100 (dk_at dksX4_queue_4 13 rfl rfl)
theorem dX4_queue_96 : decode cX4_queue 96 = .ok (.invokestatic 220, 3) := dk_184 0 220 (dk_at dksX4_queue_4 14 rfl rfl)
theorem dX4_queue_99 : decode cX4_queue 99 = .ok (.ireturn, 1) := dk_172 (dk_at dksX4_queue_4 17 rfl rfl)
abbrev cX4_isQueue : ByteArray := prog_13_method_25_code
def yX4_isQueue : MethodName := ⟨RX4, "isQueue", "(I)Z"⟩
def dkwX4_isQueue_0 : List UInt8 := [27, 133, 9, 42, 180, 0, 198, 4, 100, 133, 184, 0, 21, 172]
abbrev dktX4_isQueue_0 : List UInt8 := dkwX4_isQueue_0 ++ []
theorem dksX4_isQueue_0 : cX4_isQueue.data.toList.drop 0 = dktX4_isQueue_0 := by decide +kernel
theorem dX4_isQueue_0 : decode cX4_isQueue 0 = .ok (.iload_n 1, 1) := dk_27 (dk_at dksX4_isQueue_0 0 rfl rfl)
theorem dX4_isQueue_1 : decode cX4_isQueue 1 = .ok (.i2l, 1) := dk_133 (dk_at dksX4_isQueue_0 1 rfl rfl)
theorem dX4_isQueue_2 : decode cX4_isQueue 2 = .ok (.lconst 0, 1) := dk_9 (dk_at dksX4_isQueue_0 2 rfl rfl)
theorem dX4_isQueue_3 : decode cX4_isQueue 3 = .ok (.aload_n 0, 1) := dk_42 (dk_at dksX4_isQueue_0 3 rfl rfl)
theorem dX4_isQueue_4 : decode cX4_isQueue 4 = .ok (.getfield 198, 3) := dk_180 0 198 (dk_at dksX4_isQueue_0 4 rfl rfl)
theorem dX4_isQueue_7 : decode cX4_isQueue 7 = .ok (.iconst 1, 1) := dk_4 (dk_at dksX4_isQueue_0 7 rfl rfl)
theorem dX4_isQueue_8 : decode cX4_isQueue 8 = .ok (.isub, 1) := dk_100 (dk_at dksX4_isQueue_0 8 rfl rfl)
theorem dX4_isQueue_9 : decode cX4_isQueue 9 = .ok (.i2l, 1) := dk_133 (dk_at dksX4_isQueue_0 9 rfl rfl)
theorem dX4_isQueue_10 : decode cX4_isQueue 10 = .ok (.invokestatic 21, 3) := dk_184 0 21 (dk_at dksX4_isQueue_0 10 rfl rfl)
theorem dX4_isQueue_13 : decode cX4_isQueue 13 = .ok (.ireturn, 1) := dk_172 (dk_at dksX4_isQueue_0 13 rfl rfl)
abbrev cX4_refuse : ByteArray := prog_13_method_2_code
def yX4_refuse : MethodName := ⟨RX4, "refuse", "()I"⟩
def dkwX4_refuse_0 : List UInt8 := [42, 4, 181, 0, 3, 3, 172]
abbrev dktX4_refuse_0 : List UInt8 := dkwX4_refuse_0 ++ []
theorem dksX4_refuse_0 : cX4_refuse.data.toList.drop 0 = dktX4_refuse_0 := by decide +kernel
theorem dX4_refuse_0 : decode cX4_refuse 0 = .ok (.aload_n 0, 1) := dk_42 (dk_at dksX4_refuse_0 0 rfl rfl)
theorem dX4_refuse_1 : decode cX4_refuse 1 = .ok (.iconst 1, 1) := dk_4 (dk_at dksX4_refuse_0 1 rfl rfl)
theorem dX4_refuse_2 : decode cX4_refuse 2 = .ok (.putfield 3, 3) := dk_181 0 3 (dk_at dksX4_refuse_0 2 rfl rfl)
theorem dX4_refuse_5 : decode cX4_refuse 5 = .ok (.iconst 0, 1) := dk_3 (dk_at dksX4_refuse_0 5 rfl rfl)
theorem dX4_refuse_6 : decode cX4_refuse 6 = .ok (.ireturn, 1) := dk_172 (dk_at dksX4_refuse_0 6 rfl rfl)
abbrev cX4_of : ByteArray := prog_13_method_26_code
def yX4_of : MethodName := ⟨RX4, "of", "([III)I"⟩
def dkwX4_of_0 : List UInt8 := [42, 16, 89, 27, 104, 28, 96, 46, 172]
abbrev dktX4_of_0 : List UInt8 := dkwX4_of_0 ++ []
theorem dksX4_of_0 : cX4_of.data.toList.drop 0 = dktX4_of_0 := by decide +kernel
theorem dX4_of_0 : decode cX4_of 0 = .ok (.aload_n 0, 1) := dk_42 (dk_at dksX4_of_0 0 rfl rfl)
theorem dX4_of_1 : decode cX4_of 1 = .ok (.bipush 89, 2) := dk_16 89 (dk_at dksX4_of_0 1 rfl rfl)
theorem dX4_of_3 : decode cX4_of 3 = .ok (.iload_n 1, 1) := dk_27 (dk_at dksX4_of_0 3 rfl rfl)
theorem dX4_of_4 : decode cX4_of 4 = .ok (.imul, 1) := dk_104 (dk_at dksX4_of_0 4 rfl rfl)
theorem dX4_of_5 : decode cX4_of 5 = .ok (.iload_n 2, 1) := dk_28 (dk_at dksX4_of_0 5 rfl rfl)
theorem dX4_of_6 : decode cX4_of 6 = .ok (.iadd, 1) := dk_96 (dk_at dksX4_of_0 6 rfl rfl)
theorem dX4_of_7 : decode cX4_of 7 = .ok (.iaload, 1) := dk_46 (dk_at dksX4_of_0 7 rfl rfl)
theorem dX4_of_8 : decode cX4_of 8 = .ok (.ireturn, 1) := dk_172 (dk_at dksX4_of_0 8 rfl rfl)
abbrev cX4_sheet : ByteArray := prog_13_method_33_code
def yX4_sheet : MethodName := ⟨RX4, "sheet", "(IIII)I"⟩
def dkwX4_sheet_6 : List UInt8 := [184, 0, 229, 172]
abbrev dktX4_sheet_6 : List UInt8 := dkwX4_sheet_6 ++ []
def dkwX4_sheet_5 : List UInt8 := [54, 5, 132, 6, 1, 167, 255, 177, 27, 6, 160, 0, 8, 16, 253, 167, 0, 10, 42, 180, 0, 146]
abbrev dktX4_sheet_5 : List UInt8 := dkwX4_sheet_5 ++ dktX4_sheet_6
def dkwX4_sheet_4 : List UInt8 := [161, 0, 7, 3, 167, 0, 14, 3, 16, 99, 21, 7, 184, 0, 31, 184, 0, 226, 79, 21, 5, 21, 4, 96]
abbrev dktX4_sheet_4 : List UInt8 := dkwX4_sheet_4 ++ dktX4_sheet_5
def dkwX4_sheet_3 : List UInt8 := [21, 5, 54, 7, 42, 180, 0, 146, 17, 3, 60, 21, 6, 96, 27, 6, 159, 0, 9, 21, 6, 28]
abbrev dktX4_sheet_3 : List UInt8 := dkwX4_sheet_3 ++ dktX4_sheet_4
def dkwX4_sheet_2 : List UInt8 := [162, 0, 78, 27, 154, 0, 9, 21, 5, 145, 167, 0, 16, 27, 4, 160, 0, 9, 21, 5, 147, 167, 0, 5]
abbrev dktX4_sheet_2 : List UInt8 := dkwX4_sheet_2 ++ dktX4_sheet_3
def dkwX4_sheet_1 : List UInt8 := [172, 27, 6, 159, 0, 10, 28, 156, 0, 6, 16, 254, 172, 29, 54, 5, 3, 54, 6, 21, 6, 16, 10]
abbrev dktX4_sheet_1 : List UInt8 := dkwX4_sheet_1 ++ dktX4_sheet_2
def dkwX4_sheet_0 : List UInt8 := [42, 3, 181, 0, 3, 27, 133, 9, 20, 0, 224, 184, 0, 21, 153, 0, 9, 28, 16, 10, 164, 0, 5, 2]
abbrev dktX4_sheet_0 : List UInt8 := dkwX4_sheet_0 ++ dktX4_sheet_1
theorem dksX4_sheet_0 : cX4_sheet.data.toList.drop 0 = dktX4_sheet_0 := by decide +kernel
theorem dksX4_sheet_1 : cX4_sheet.data.toList.drop 24 = dktX4_sheet_1 := dk_seg dksX4_sheet_0 24 rfl rfl
theorem dksX4_sheet_2 : cX4_sheet.data.toList.drop 47 = dktX4_sheet_2 := dk_seg dksX4_sheet_1 23 rfl rfl
theorem dksX4_sheet_3 : cX4_sheet.data.toList.drop 71 = dktX4_sheet_3 := dk_seg dksX4_sheet_2 24 rfl rfl
theorem dksX4_sheet_4 : cX4_sheet.data.toList.drop 93 = dktX4_sheet_4 := dk_seg dksX4_sheet_3 22 rfl rfl
theorem dksX4_sheet_5 : cX4_sheet.data.toList.drop 117 = dktX4_sheet_5 := dk_seg dksX4_sheet_4 24 rfl rfl
theorem dksX4_sheet_6 : cX4_sheet.data.toList.drop 139 = dktX4_sheet_6 := dk_seg dksX4_sheet_5 22 rfl rfl
theorem dX4_sheet_0 : decode cX4_sheet 0 = .ok (.aload_n 0, 1) := dk_42 (dk_at dksX4_sheet_0 0 rfl rfl)
theorem dX4_sheet_1 : decode cX4_sheet 1 = .ok (.iconst 0, 1) := dk_3 (dk_at dksX4_sheet_0 1 rfl rfl)
theorem dX4_sheet_2 : decode cX4_sheet 2 = .ok (.putfield 3, 3) := dk_181 0 3 (dk_at dksX4_sheet_0 2 rfl rfl)
theorem dX4_sheet_5 : decode cX4_sheet 5 = .ok (.iload_n 1, 1) := dk_27 (dk_at dksX4_sheet_0 5 rfl rfl)
theorem dX4_sheet_6 : decode cX4_sheet 6 = .ok (.i2l, 1) := dk_133 (dk_at dksX4_sheet_0 6 rfl rfl)
theorem dX4_sheet_7 : decode cX4_sheet 7 = .ok (.lconst 0, 1) := dk_9 (dk_at dksX4_sheet_0 7 rfl rfl)
theorem dX4_sheet_8 : decode cX4_sheet 8 = .ok (.ldc2_w 224, 3) := dk_20 0 224 (dk_at dksX4_sheet_0 8 rfl rfl)
theorem dX4_sheet_11 : decode cX4_sheet 11 = .ok (.invokestatic 21, 3) := dk_184 0 21 (dk_at dksX4_sheet_0 11 rfl rfl)
theorem dX4_sheet_14 : decode cX4_sheet 14 = .ok (.ifCond .eq 9, 3) := dk_153 0 9 (dk_at dksX4_sheet_0 14 rfl rfl)
theorem dX4_sheet_17 : decode cX4_sheet 17 = .ok (.iload_n 2, 1) := dk_28 (dk_at dksX4_sheet_0 17 rfl rfl)
theorem dX4_sheet_18 : decode cX4_sheet 18 = .ok (.bipush 10, 2) := dk_16 10 (dk_at dksX4_sheet_0 18 rfl rfl)
theorem dX4_sheet_20 : decode cX4_sheet 20 = .ok (.if_icmp .le 5, 3) := dk_164 0 5 (dk_at dksX4_sheet_0 20 rfl rfl)
theorem dX4_sheet_23 : decode cX4_sheet 23 = .ok (.iconst (-1), 1) := dk_2 (dk_at dksX4_sheet_0 23 rfl rfl)
theorem dX4_sheet_24 : decode cX4_sheet 24 = .ok (.ireturn, 1) := dk_172 (dk_at dksX4_sheet_1 0 rfl rfl)
theorem dX4_sheet_25 : decode cX4_sheet 25 = .ok (.iload_n 1, 1) := dk_27 (dk_at dksX4_sheet_1 1 rfl rfl)
theorem dX4_sheet_26 : decode cX4_sheet 26 = .ok (.iconst 3, 1) := dk_6 (dk_at dksX4_sheet_1 2 rfl rfl)
theorem dX4_sheet_27 : decode cX4_sheet 27 = .ok (.if_icmp .eq 10, 3) := dk_159 0 10 (dk_at dksX4_sheet_1 3 rfl rfl)
theorem dX4_sheet_30 : decode cX4_sheet 30 = .ok (.iload_n 2, 1) := dk_28 (dk_at dksX4_sheet_1 6 rfl rfl)
theorem dX4_sheet_31 : decode cX4_sheet 31 = .ok (.ifCond .ge 6, 3) := dk_156 0 6 (dk_at dksX4_sheet_1 7 rfl rfl)
theorem dX4_sheet_34 : decode cX4_sheet 34 = .ok (.bipush (-2), 2) := dk_16 254 (dk_at dksX4_sheet_1 10 rfl rfl)
theorem dX4_sheet_36 : decode cX4_sheet 36 = .ok (.ireturn, 1) := dk_172 (dk_at dksX4_sheet_1 12 rfl rfl)
theorem dX4_sheet_37 : decode cX4_sheet 37 = .ok (.iload_n 3, 1) := dk_29 (dk_at dksX4_sheet_1 13 rfl rfl)
theorem dX4_sheet_38 : decode cX4_sheet 38 = .ok (.istore 5, 2) := dk_54 5 (dk_at dksX4_sheet_1 14 rfl rfl)
theorem dX4_sheet_40 : decode cX4_sheet 40 = .ok (.iconst 0, 1) := dk_3 (dk_at dksX4_sheet_1 16 rfl rfl)
theorem dX4_sheet_41 : decode cX4_sheet 41 = .ok (.istore 6, 2) := dk_54 6 (dk_at dksX4_sheet_1 17 rfl rfl)
theorem dX4_sheet_43 : decode cX4_sheet 43 = .ok (.iload 6, 2) := dk_21 6 (dk_at dksX4_sheet_1 19 rfl rfl)
theorem dX4_sheet_45 : decode cX4_sheet 45 = .ok (.bipush 10, 2) := dk_16 10 (dk_at dksX4_sheet_1 21 rfl rfl)
theorem dX4_sheet_47 : decode cX4_sheet 47 = .ok (.if_icmp .ge 78, 3) := dk_162 0 78 (dk_at dksX4_sheet_2 0 rfl rfl)
theorem dX4_sheet_50 : decode cX4_sheet 50 = .ok (.iload_n 1, 1) := dk_27 (dk_at dksX4_sheet_2 3 rfl rfl)
theorem dX4_sheet_51 : decode cX4_sheet 51 = .ok (.ifCond .ne 9, 3) := dk_154 0 9 (dk_at dksX4_sheet_2 4 rfl rfl)
theorem dX4_sheet_54 : decode cX4_sheet 54 = .ok (.iload 5, 2) := dk_21 5 (dk_at dksX4_sheet_2 7 rfl rfl)
theorem dX4_sheet_56 : decode cX4_sheet 56 = .ok (.i2b, 1) := dk_145 (dk_at dksX4_sheet_2 9 rfl rfl)
theorem dX4_sheet_57 : decode cX4_sheet 57 = .ok (.goto 16, 3) := dk_167 0 16 (dk_at dksX4_sheet_2 10 rfl rfl)
theorem dX4_sheet_60 : decode cX4_sheet 60 = .ok (.iload_n 1, 1) := dk_27 (dk_at dksX4_sheet_2 13 rfl rfl)
theorem dX4_sheet_61 : decode cX4_sheet 61 = .ok (.iconst 1, 1) := dk_4 (dk_at dksX4_sheet_2 14 rfl rfl)
theorem dX4_sheet_62 : decode cX4_sheet 62 = .ok (.if_icmp .ne 9, 3) := dk_160 0 9 (dk_at dksX4_sheet_2 15 rfl rfl)
theorem dX4_sheet_65 : decode cX4_sheet 65 = .ok (.iload 5, 2) := dk_21 5 (dk_at dksX4_sheet_2 18 rfl rfl)
theorem dX4_sheet_67 : decode cX4_sheet 67 = .ok (.i2s, 1) := dk_147 (dk_at dksX4_sheet_2 20 rfl rfl)
theorem dX4_sheet_68 : decode cX4_sheet 68 = .ok (.goto 5, 3) := dk_167 0 5 (dk_at dksX4_sheet_2 21 rfl rfl)
theorem dX4_sheet_71 : decode cX4_sheet 71 = .ok (.iload 5, 2) := dk_21 5 (dk_at dksX4_sheet_3 0 rfl rfl)
theorem dX4_sheet_73 : decode cX4_sheet 73 = .ok (.istore 7, 2) := dk_54 7 (dk_at dksX4_sheet_3 2 rfl rfl)
theorem dX4_sheet_75 : decode cX4_sheet 75 = .ok (.aload_n 0, 1) := dk_42 (dk_at dksX4_sheet_3 4 rfl rfl)
theorem dX4_sheet_76 : decode cX4_sheet 76 = .ok (.getfield 146, 3) := dk_180 0 146 (dk_at dksX4_sheet_3 5 rfl rfl)
theorem dX4_sheet_79 : decode cX4_sheet 79 = .ok (.sipush 828, 3) := dk_17 3 60 (dk_at dksX4_sheet_3 8 rfl rfl)
theorem dX4_sheet_82 : decode cX4_sheet 82 = .ok (.iload 6, 2) := dk_21 6 (dk_at dksX4_sheet_3 11 rfl rfl)
theorem dX4_sheet_84 : decode cX4_sheet 84 = .ok (.iadd, 1) := dk_96 (dk_at dksX4_sheet_3 13 rfl rfl)
theorem dX4_sheet_85 : decode cX4_sheet 85 = .ok (.iload_n 1, 1) := dk_27 (dk_at dksX4_sheet_3 14 rfl rfl)
theorem dX4_sheet_86 : decode cX4_sheet 86 = .ok (.iconst 3, 1) := dk_6 (dk_at dksX4_sheet_3 15 rfl rfl)
theorem dX4_sheet_87 : decode cX4_sheet 87 = .ok (.if_icmp .eq 9, 3) := dk_159 0 9 (dk_at dksX4_sheet_3 16 rfl rfl)
theorem dX4_sheet_90 : decode cX4_sheet 90 = .ok (.iload 6, 2) := dk_21 6 (dk_at dksX4_sheet_3 19 rfl rfl)
theorem dX4_sheet_92 : decode cX4_sheet 92 = .ok (.iload_n 2, 1) := dk_28 (dk_at dksX4_sheet_3 21 rfl rfl)
theorem dX4_sheet_93 : decode cX4_sheet 93 = .ok (.if_icmp .lt 7, 3) := dk_161 0 7 (dk_at dksX4_sheet_4 0 rfl rfl)
theorem dX4_sheet_96 : decode cX4_sheet 96 = .ok (.iconst 0, 1) := dk_3 (dk_at dksX4_sheet_4 3 rfl rfl)
theorem dX4_sheet_97 : decode cX4_sheet 97 = .ok (.goto 14, 3) := dk_167 0 14 (dk_at dksX4_sheet_4 4 rfl rfl)
theorem dX4_sheet_100 : decode cX4_sheet 100 = .ok (.iconst 0, 1) := dk_3 (dk_at dksX4_sheet_4 7 rfl rfl)
theorem dX4_sheet_101 : decode cX4_sheet 101 = .ok (.bipush 99, 2) := dk_16 99 (dk_at dksX4_sheet_4 8 rfl rfl)
theorem dX4_sheet_103 : decode cX4_sheet 103 = .ok (.iload 7, 2) := dk_21 7 (dk_at dksX4_sheet_4 10 rfl rfl)
theorem dX4_sheet_105 : decode cX4_sheet 105 = .ok (.invokestatic 31, 3) := dk_184 0 31 (dk_at dksX4_sheet_4 12 rfl rfl)
theorem dX4_sheet_108 : decode cX4_sheet 108 = .ok (.invokestatic 226, 3) := dk_184 0 226 (dk_at dksX4_sheet_4 15 rfl rfl)
theorem dX4_sheet_111 : decode cX4_sheet 111 = .ok (.iastore, 1) := dk_79 (dk_at dksX4_sheet_4 18 rfl rfl)
theorem dX4_sheet_112 : decode cX4_sheet 112 = .ok (.iload 5, 2) := dk_21 5 (dk_at dksX4_sheet_4 19 rfl rfl)
theorem dX4_sheet_114 : decode cX4_sheet 114 = .ok (.iload 4, 2) := dk_21 4 (dk_at dksX4_sheet_4 21 rfl rfl)
theorem dX4_sheet_116 : decode cX4_sheet 116 = .ok (.iadd, 1) := dk_96 (dk_at dksX4_sheet_4 23 rfl rfl)
theorem dX4_sheet_117 : decode cX4_sheet 117 = .ok (.istore 5, 2) := dk_54 5 (dk_at dksX4_sheet_5 0 rfl rfl)
theorem dX4_sheet_119 : decode cX4_sheet 119 = .ok (.iinc 6 1, 3) := dk_132 6 1 (dk_at dksX4_sheet_5 2 rfl rfl)
theorem dX4_sheet_122 : decode cX4_sheet 122 = .ok (.goto (-79), 3) := dk_167 255 177 (dk_at dksX4_sheet_5 5 rfl rfl)
theorem dX4_sheet_125 : decode cX4_sheet 125 = .ok (.iload_n 1, 1) := dk_27 (dk_at dksX4_sheet_5 8 rfl rfl)
theorem dX4_sheet_126 : decode cX4_sheet 126 = .ok (.iconst 3, 1) := dk_6 (dk_at dksX4_sheet_5 9 rfl rfl)
theorem dX4_sheet_127 : decode cX4_sheet 127 = .ok (.if_icmp .ne 8, 3) := dk_160 0 8 (dk_at dksX4_sheet_5 10 rfl rfl)
theorem dX4_sheet_130 : decode cX4_sheet 130 = .ok (.bipush (-3), 2) := dk_16 253 (dk_at dksX4_sheet_5 13 rfl rfl)
theorem dX4_sheet_132 : decode cX4_sheet 132 = .ok (.goto 10, 3) := dk_167 0 10 (dk_at dksX4_sheet_5 15 rfl rfl)
theorem dX4_sheet_135 : decode cX4_sheet 135 = .ok (.aload_n 0, 1) := dk_42 (dk_at dksX4_sheet_5 18 rfl rfl)
theorem dX4_sheet_136 : decode cX4_sheet 136 = .ok (.getfield 146, 3) := dk_180 0 146 (dk_at dksX4_sheet_5 19 rfl rfl)
theorem dX4_sheet_139 : decode cX4_sheet 139 = .ok (.invokestatic 229, 3) := dk_184 0 229 (dk_at dksX4_sheet_6 0 rfl rfl)
theorem dX4_sheet_142 : decode cX4_sheet 142 = .ok (.ireturn, 1) := dk_172 (dk_at dksX4_sheet_6 3 rfl rfl)
abbrev cX4_blocksOf : ByteArray := prog_13_method_32_code
def yX4_blocksOf : MethodName := ⟨RX4, "blocksOf", "([I)I"⟩
def dkwX4_blocksOf_1 : List UInt8 := [167, 255, 237, 27, 172]
abbrev dktX4_blocksOf_1 : List UInt8 := dkwX4_blocksOf_1 ++ []
def dkwX4_blocksOf_0 : List UInt8 := [3, 60, 3, 61, 28, 16, 10, 162, 0, 19, 27, 42, 17, 3, 60, 28, 96, 46, 96, 60, 132, 2, 1]
abbrev dktX4_blocksOf_0 : List UInt8 := dkwX4_blocksOf_0 ++ dktX4_blocksOf_1
theorem dksX4_blocksOf_0 : cX4_blocksOf.data.toList.drop 0 = dktX4_blocksOf_0 := by decide +kernel
theorem dksX4_blocksOf_1 : cX4_blocksOf.data.toList.drop 23 = dktX4_blocksOf_1 := dk_seg dksX4_blocksOf_0 23 rfl rfl
theorem dX4_blocksOf_0 : decode cX4_blocksOf 0 = .ok (.iconst 0, 1) := dk_3 (dk_at dksX4_blocksOf_0 0 rfl rfl)
theorem dX4_blocksOf_1 : decode cX4_blocksOf 1 = .ok (.istore_n 1, 1) := dk_60 (dk_at dksX4_blocksOf_0 1 rfl rfl)
theorem dX4_blocksOf_2 : decode cX4_blocksOf 2 = .ok (.iconst 0, 1) := dk_3 (dk_at dksX4_blocksOf_0 2 rfl rfl)
theorem dX4_blocksOf_3 : decode cX4_blocksOf 3 = .ok (.istore_n 2, 1) := dk_61 (dk_at dksX4_blocksOf_0 3 rfl rfl)
theorem dX4_blocksOf_4 : decode cX4_blocksOf 4 = .ok (.iload_n 2, 1) := dk_28 (dk_at dksX4_blocksOf_0 4 rfl rfl)
theorem dX4_blocksOf_5 : decode cX4_blocksOf 5 = .ok (.bipush 10, 2) := dk_16 10 (dk_at dksX4_blocksOf_0 5 rfl rfl)
theorem dX4_blocksOf_7 : decode cX4_blocksOf 7 = .ok (.if_icmp .ge 19, 3) := dk_162 0 19 (dk_at dksX4_blocksOf_0 7 rfl rfl)
theorem dX4_blocksOf_10 : decode cX4_blocksOf 10 = .ok (.iload_n 1, 1) := dk_27 (dk_at dksX4_blocksOf_0 10 rfl rfl)
theorem dX4_blocksOf_11 : decode cX4_blocksOf 11 = .ok (.aload_n 0, 1) := dk_42 (dk_at dksX4_blocksOf_0 11 rfl rfl)
theorem dX4_blocksOf_12 : decode cX4_blocksOf 12 = .ok (.sipush 828, 3) := dk_17 3 60 (dk_at dksX4_blocksOf_0 12 rfl rfl)
theorem dX4_blocksOf_15 : decode cX4_blocksOf 15 = .ok (.iload_n 2, 1) := dk_28 (dk_at dksX4_blocksOf_0 15 rfl rfl)
theorem dX4_blocksOf_16 : decode cX4_blocksOf 16 = .ok (.iadd, 1) := dk_96 (dk_at dksX4_blocksOf_0 16 rfl rfl)
theorem dX4_blocksOf_17 : decode cX4_blocksOf 17 = .ok (.iaload, 1) := dk_46 (dk_at dksX4_blocksOf_0 17 rfl rfl)
theorem dX4_blocksOf_18 : decode cX4_blocksOf 18 = .ok (.iadd, 1) := dk_96 (dk_at dksX4_blocksOf_0 18 rfl rfl)
theorem dX4_blocksOf_19 : decode cX4_blocksOf 19 = .ok (.istore_n 1, 1) := dk_60 (dk_at dksX4_blocksOf_0 19 rfl rfl)
theorem dX4_blocksOf_20 : decode cX4_blocksOf 20 = .ok (.iinc 2 1, 3) := dk_132 2 1 (dk_at dksX4_blocksOf_0 20 rfl rfl)
theorem dX4_blocksOf_23 : decode cX4_blocksOf 23 = .ok (.goto (-19), 3) := dk_167 255 237 (dk_at dksX4_blocksOf_1 0 rfl rfl)
theorem dX4_blocksOf_26 : decode cX4_blocksOf 26 = .ok (.iload_n 1, 1) := dk_27 (dk_at dksX4_blocksOf_1 3 rfl rfl)
theorem dX4_blocksOf_27 : decode cX4_blocksOf 27 = .ok (.ireturn, 1) := dk_172 (dk_at dksX4_blocksOf_1 4 rfl rfl)
abbrev cX4_undo : ByteArray := prog_13_method_37_code
def yX4_undo : MethodName := ⟨RX4, "undo", "()I"⟩
def dkwX4_undo_2 : List UInt8 := [180, 0, 206, 104, 27, 96, 46, 79, 132, 1, 1, 167, 255, 225, 42, 180, 0, 206, 172]
abbrev dktX4_undo_2 : List UInt8 := dkwX4_undo_2 ++ []
def dkwX4_undo_1 : List UInt8 := [3, 60, 27, 17, 3, 76, 162, 0, 30, 42, 180, 0, 146, 27, 42, 180, 0, 152, 17, 3, 76, 42]
abbrev dktX4_undo_1 : List UInt8 := dkwX4_undo_1 ++ dktX4_undo_2
def dkwX4_undo_0 : List UInt8 := [42, 3, 181, 0, 3, 42, 180, 0, 206, 154, 0, 5, 2, 172, 42, 89, 180, 0, 206, 4, 100, 181, 0, 206]
abbrev dktX4_undo_0 : List UInt8 := dkwX4_undo_0 ++ dktX4_undo_1
theorem dksX4_undo_0 : cX4_undo.data.toList.drop 0 = dktX4_undo_0 := by decide +kernel
theorem dksX4_undo_1 : cX4_undo.data.toList.drop 24 = dktX4_undo_1 := dk_seg dksX4_undo_0 24 rfl rfl
theorem dksX4_undo_2 : cX4_undo.data.toList.drop 46 = dktX4_undo_2 := dk_seg dksX4_undo_1 22 rfl rfl
theorem dX4_undo_0 : decode cX4_undo 0 = .ok (.aload_n 0, 1) := dk_42 (dk_at dksX4_undo_0 0 rfl rfl)
theorem dX4_undo_1 : decode cX4_undo 1 = .ok (.iconst 0, 1) := dk_3 (dk_at dksX4_undo_0 1 rfl rfl)
theorem dX4_undo_2 : decode cX4_undo 2 = .ok (.putfield 3, 3) := dk_181 0 3 (dk_at dksX4_undo_0 2 rfl rfl)
theorem dX4_undo_5 : decode cX4_undo 5 = .ok (.aload_n 0, 1) := dk_42 (dk_at dksX4_undo_0 5 rfl rfl)
theorem dX4_undo_6 : decode cX4_undo 6 = .ok (.getfield 206, 3) := dk_180 0 206 (dk_at dksX4_undo_0 6 rfl rfl)
theorem dX4_undo_9 : decode cX4_undo 9 = .ok (.ifCond .ne 5, 3) := dk_154 0 5 (dk_at dksX4_undo_0 9 rfl rfl)
theorem dX4_undo_12 : decode cX4_undo 12 = .ok (.iconst (-1), 1) := dk_2 (dk_at dksX4_undo_0 12 rfl rfl)
theorem dX4_undo_13 : decode cX4_undo 13 = .ok (.ireturn, 1) := dk_172 (dk_at dksX4_undo_0 13 rfl rfl)
theorem dX4_undo_14 : decode cX4_undo 14 = .ok (.aload_n 0, 1) := dk_42 (dk_at dksX4_undo_0 14 rfl rfl)
theorem dX4_undo_15 : decode cX4_undo 15 = .ok (.dup, 1) := dk_89 (dk_at dksX4_undo_0 15 rfl rfl)
theorem dX4_undo_16 : decode cX4_undo 16 = .ok (.getfield 206, 3) := dk_180 0 206 (dk_at dksX4_undo_0 16 rfl rfl)
theorem dX4_undo_19 : decode cX4_undo 19 = .ok (.iconst 1, 1) := dk_4 (dk_at dksX4_undo_0 19 rfl rfl)
theorem dX4_undo_20 : decode cX4_undo 20 = .ok (.isub, 1) := dk_100 (dk_at dksX4_undo_0 20 rfl rfl)
theorem dX4_undo_21 : decode cX4_undo 21 = .ok (.putfield 206, 3) := dk_181 0 206 (dk_at dksX4_undo_0 21 rfl rfl)
theorem dX4_undo_24 : decode cX4_undo 24 = .ok (.iconst 0, 1) := dk_3 (dk_at dksX4_undo_1 0 rfl rfl)
theorem dX4_undo_25 : decode cX4_undo 25 = .ok (.istore_n 1, 1) := dk_60 (dk_at dksX4_undo_1 1 rfl rfl)
theorem dX4_undo_26 : decode cX4_undo 26 = .ok (.iload_n 1, 1) := dk_27 (dk_at dksX4_undo_1 2 rfl rfl)
theorem dX4_undo_27 : decode cX4_undo 27 = .ok (.sipush 844, 3) := dk_17 3 76 (dk_at dksX4_undo_1 3 rfl rfl)
theorem dX4_undo_30 : decode cX4_undo 30 = .ok (.if_icmp .ge 30, 3) := dk_162 0 30 (dk_at dksX4_undo_1 6 rfl rfl)
theorem dX4_undo_33 : decode cX4_undo 33 = .ok (.aload_n 0, 1) := dk_42 (dk_at dksX4_undo_1 9 rfl rfl)
theorem dX4_undo_34 : decode cX4_undo 34 = .ok (.getfield 146, 3) := dk_180 0 146 (dk_at dksX4_undo_1 10 rfl rfl)
theorem dX4_undo_37 : decode cX4_undo 37 = .ok (.iload_n 1, 1) := dk_27 (dk_at dksX4_undo_1 13 rfl rfl)
theorem dX4_undo_38 : decode cX4_undo 38 = .ok (.aload_n 0, 1) := dk_42 (dk_at dksX4_undo_1 14 rfl rfl)
theorem dX4_undo_39 : decode cX4_undo 39 = .ok (.getfield 152, 3) := dk_180 0 152 (dk_at dksX4_undo_1 15 rfl rfl)
theorem dX4_undo_42 : decode cX4_undo 42 = .ok (.sipush 844, 3) := dk_17 3 76 (dk_at dksX4_undo_1 18 rfl rfl)
theorem dX4_undo_45 : decode cX4_undo 45 = .ok (.aload_n 0, 1) := dk_42 (dk_at dksX4_undo_1 21 rfl rfl)
theorem dX4_undo_46 : decode cX4_undo 46 = .ok (.getfield 206, 3) := dk_180 0 206 (dk_at dksX4_undo_2 0 rfl rfl)
theorem dX4_undo_49 : decode cX4_undo 49 = .ok (.imul, 1) := dk_104 (dk_at dksX4_undo_2 3 rfl rfl)
theorem dX4_undo_50 : decode cX4_undo 50 = .ok (.iload_n 1, 1) := dk_27 (dk_at dksX4_undo_2 4 rfl rfl)
theorem dX4_undo_51 : decode cX4_undo 51 = .ok (.iadd, 1) := dk_96 (dk_at dksX4_undo_2 5 rfl rfl)
theorem dX4_undo_52 : decode cX4_undo 52 = .ok (.iaload, 1) := dk_46 (dk_at dksX4_undo_2 6 rfl rfl)
theorem dX4_undo_53 : decode cX4_undo 53 = .ok (.iastore, 1) := dk_79 (dk_at dksX4_undo_2 7 rfl rfl)
theorem dX4_undo_54 : decode cX4_undo 54 = .ok (.iinc 1 1, 3) := dk_132 1 1 (dk_at dksX4_undo_2 8 rfl rfl)
theorem dX4_undo_57 : decode cX4_undo 57 = .ok (.goto (-31), 3) := dk_167 255 225 (dk_at dksX4_undo_2 11 rfl rfl)
theorem dX4_undo_60 : decode cX4_undo 60 = .ok (.aload_n 0, 1) := dk_42 (dk_at dksX4_undo_2 14 rfl rfl)
theorem dX4_undo_61 : decode cX4_undo 61 = .ok (.getfield 206, 3) := dk_180 0 206 (dk_at dksX4_undo_2 15 rfl rfl)
theorem dX4_undo_64 : decode cX4_undo 64 = .ok (.ireturn, 1) := dk_172 (dk_at dksX4_undo_2 18 rfl rfl)
abbrev cX4_puts : ByteArray := prog_13_method_72_code
def yX4_puts : MethodName := ⟨RX4, "puts", "(IIII)I"⟩
def dkwX4_puts_1 : List UInt8 := [182, 1, 106, 172]
abbrev dktX4_puts_1 : List UInt8 := dkwX4_puts_1 ++ []
def dkwX4_puts_0 : List UInt8 := [42, 3, 181, 0, 3, 42, 182, 1, 99, 42, 42, 42, 180, 0, 146, 27, 28, 29, 21, 4, 182, 1, 102]
abbrev dktX4_puts_0 : List UInt8 := dkwX4_puts_0 ++ dktX4_puts_1
theorem dksX4_puts_0 : cX4_puts.data.toList.drop 0 = dktX4_puts_0 := by decide +kernel
theorem dksX4_puts_1 : cX4_puts.data.toList.drop 23 = dktX4_puts_1 := dk_seg dksX4_puts_0 23 rfl rfl
theorem dX4_puts_0 : decode cX4_puts 0 = .ok (.aload_n 0, 1) := dk_42 (dk_at dksX4_puts_0 0 rfl rfl)
theorem dX4_puts_1 : decode cX4_puts 1 = .ok (.iconst 0, 1) := dk_3 (dk_at dksX4_puts_0 1 rfl rfl)
theorem dX4_puts_2 : decode cX4_puts 2 = .ok (.putfield 3, 3) := dk_181 0 3 (dk_at dksX4_puts_0 2 rfl rfl)
theorem dX4_puts_5 : decode cX4_puts 5 = .ok (.aload_n 0, 1) := dk_42 (dk_at dksX4_puts_0 5 rfl rfl)
theorem dX4_puts_6 : decode cX4_puts 6 = .ok (.invokevirtual 355, 3) := dk_182 1 99 (dk_at dksX4_puts_0 6 rfl rfl)
theorem dX4_puts_9 : decode cX4_puts 9 = .ok (.aload_n 0, 1) := dk_42 (dk_at dksX4_puts_0 9 rfl rfl)
theorem dX4_puts_10 : decode cX4_puts 10 = .ok (.aload_n 0, 1) := dk_42 (dk_at dksX4_puts_0 10 rfl rfl)
theorem dX4_puts_11 : decode cX4_puts 11 = .ok (.aload_n 0, 1) := dk_42 (dk_at dksX4_puts_0 11 rfl rfl)
theorem dX4_puts_12 : decode cX4_puts 12 = .ok (.getfield 146, 3) := dk_180 0 146 (dk_at dksX4_puts_0 12 rfl rfl)
theorem dX4_puts_15 : decode cX4_puts 15 = .ok (.iload_n 1, 1) := dk_27 (dk_at dksX4_puts_0 15 rfl rfl)
theorem dX4_puts_16 : decode cX4_puts 16 = .ok (.iload_n 2, 1) := dk_28 (dk_at dksX4_puts_0 16 rfl rfl)
theorem dX4_puts_17 : decode cX4_puts 17 = .ok (.iload_n 3, 1) := dk_29 (dk_at dksX4_puts_0 17 rfl rfl)
theorem dX4_puts_18 : decode cX4_puts 18 = .ok (.iload 4, 2) := dk_21 4 (dk_at dksX4_puts_0 18 rfl rfl)
theorem dX4_puts_20 : decode cX4_puts 20 = .ok (.invokevirtual 358, 3) := dk_182 1 102 (dk_at dksX4_puts_0 20 rfl rfl)
theorem dX4_puts_23 : decode cX4_puts 23 = .ok (.invokevirtual 362, 3) := dk_182 1 106 (dk_at dksX4_puts_1 0 rfl rfl)
theorem dX4_puts_26 : decode cX4_puts 26 = .ok (.ireturn, 1) := dk_172 (dk_at dksX4_puts_1 3 rfl rfl)
abbrev cX4_putsBy : ByteArray := prog_13_method_34_code
def yX4_putsBy : MethodName := ⟨RX4, "putsBy", "()V"⟩
def dkwX4_putsBy_1 : List UInt8 := [180, 0, 146, 27, 46, 79, 132, 1, 1, 167, 255, 225, 177]
abbrev dktX4_putsBy_1 : List UInt8 := dkwX4_putsBy_1 ++ []
def dkwX4_putsBy_0 : List UInt8 := [3, 60, 27, 17, 3, 76, 162, 0, 30, 42, 180, 0, 152, 17, 3, 76, 42, 180, 0, 206, 104, 27, 96, 42]
abbrev dktX4_putsBy_0 : List UInt8 := dkwX4_putsBy_0 ++ dktX4_putsBy_1
theorem dksX4_putsBy_0 : cX4_putsBy.data.toList.drop 0 = dktX4_putsBy_0 := by decide +kernel
theorem dksX4_putsBy_1 : cX4_putsBy.data.toList.drop 24 = dktX4_putsBy_1 := dk_seg dksX4_putsBy_0 24 rfl rfl
theorem dX4_putsBy_0 : decode cX4_putsBy 0 = .ok (.iconst 0, 1) := dk_3 (dk_at dksX4_putsBy_0 0 rfl rfl)
theorem dX4_putsBy_1 : decode cX4_putsBy 1 = .ok (.istore_n 1, 1) := dk_60 (dk_at dksX4_putsBy_0 1 rfl rfl)
theorem dX4_putsBy_2 : decode cX4_putsBy 2 = .ok (.iload_n 1, 1) := dk_27 (dk_at dksX4_putsBy_0 2 rfl rfl)
theorem dX4_putsBy_3 : decode cX4_putsBy 3 = .ok (.sipush 844, 3) := dk_17 3 76 (dk_at dksX4_putsBy_0 3 rfl rfl)
theorem dX4_putsBy_6 : decode cX4_putsBy 6 = .ok (.if_icmp .ge 30, 3) := dk_162 0 30 (dk_at dksX4_putsBy_0 6 rfl rfl)
theorem dX4_putsBy_9 : decode cX4_putsBy 9 = .ok (.aload_n 0, 1) := dk_42 (dk_at dksX4_putsBy_0 9 rfl rfl)
theorem dX4_putsBy_10 : decode cX4_putsBy 10 = .ok (.getfield 152, 3) := dk_180 0 152 (dk_at dksX4_putsBy_0 10 rfl rfl)
theorem dX4_putsBy_13 : decode cX4_putsBy 13 = .ok (.sipush 844, 3) := dk_17 3 76 (dk_at dksX4_putsBy_0 13 rfl rfl)
theorem dX4_putsBy_16 : decode cX4_putsBy 16 = .ok (.aload_n 0, 1) := dk_42 (dk_at dksX4_putsBy_0 16 rfl rfl)
theorem dX4_putsBy_17 : decode cX4_putsBy 17 = .ok (.getfield 206, 3) := dk_180 0 206 (dk_at dksX4_putsBy_0 17 rfl rfl)
theorem dX4_putsBy_20 : decode cX4_putsBy 20 = .ok (.imul, 1) := dk_104 (dk_at dksX4_putsBy_0 20 rfl rfl)
theorem dX4_putsBy_21 : decode cX4_putsBy 21 = .ok (.iload_n 1, 1) := dk_27 (dk_at dksX4_putsBy_0 21 rfl rfl)
theorem dX4_putsBy_22 : decode cX4_putsBy 22 = .ok (.iadd, 1) := dk_96 (dk_at dksX4_putsBy_0 22 rfl rfl)
theorem dX4_putsBy_23 : decode cX4_putsBy 23 = .ok (.aload_n 0, 1) := dk_42 (dk_at dksX4_putsBy_0 23 rfl rfl)
theorem dX4_putsBy_24 : decode cX4_putsBy 24 = .ok (.getfield 146, 3) := dk_180 0 146 (dk_at dksX4_putsBy_1 0 rfl rfl)
theorem dX4_putsBy_27 : decode cX4_putsBy 27 = .ok (.iload_n 1, 1) := dk_27 (dk_at dksX4_putsBy_1 3 rfl rfl)
theorem dX4_putsBy_28 : decode cX4_putsBy 28 = .ok (.iaload, 1) := dk_46 (dk_at dksX4_putsBy_1 4 rfl rfl)
theorem dX4_putsBy_29 : decode cX4_putsBy 29 = .ok (.iastore, 1) := dk_79 (dk_at dksX4_putsBy_1 5 rfl rfl)
theorem dX4_putsBy_30 : decode cX4_putsBy 30 = .ok (.iinc 1 1, 3) := dk_132 1 1 (dk_at dksX4_putsBy_1 6 rfl rfl)
theorem dX4_putsBy_33 : decode cX4_putsBy 33 = .ok (.goto (-31), 3) := dk_167 255 225 (dk_at dksX4_putsBy_1 9 rfl rfl)
theorem dX4_putsBy_36 : decode cX4_putsBy 36 = .ok (.return_, 1) := dk_177 (dk_at dksX4_putsBy_1 12 rfl rfl)
abbrev cX4_putsOne : ByteArray := prog_13_method_50_code
def yX4_putsOne : MethodName := ⟨RX4, "putsOne", "([IIIII)I"⟩
def dkwX4_putsOne_6 : List UInt8 := [3, 43, 28, 3, 184, 0, 220, 4, 96, 184, 1, 22, 21, 6, 172]
abbrev dktX4_putsOne_6 : List UInt8 := dkwX4_putsOne_6 ++ []
def dkwX4_putsOne_5 : List UInt8 := [21, 7, 5, 96, 21, 4, 79, 43, 21, 7, 6, 96, 21, 5, 79, 43, 21, 7, 7, 96, 3, 79, 43, 28]
abbrev dktX4_putsOne_5 : List UInt8 := dkwX4_putsOne_5 ++ dktX4_putsOne_6
def dkwX4_putsOne_4 : List UInt8 := [184, 0, 220, 184, 0, 239, 54, 7, 43, 21, 7, 3, 96, 21, 6, 79, 43, 21, 7, 4, 96, 29, 79, 43]
abbrev dktX4_putsOne_4 : List UInt8 := dkwX4_putsOne_4 ++ dktX4_putsOne_5
def dkwX4_putsOne_3 : List UInt8 := [16, 254, 172, 43, 28, 184, 1, 18, 54, 6, 21, 6, 156, 0, 6, 16, 253, 172, 28, 43, 28, 3]
abbrev dktX4_putsOne_3 : List UInt8 := dkwX4_putsOne_3 ++ dktX4_putsOne_4
def dkwX4_putsOne_2 : List UInt8 := [43, 28, 3, 184, 0, 220, 43, 28, 7, 184, 0, 220, 100, 42, 180, 0, 134, 28, 46, 4, 100, 161, 0, 6]
abbrev dktX4_putsOne_2 : List UInt8 := dkwX4_putsOne_2 ++ dktX4_putsOne_3
def dkwX4_putsOne_1 : List UInt8 := [20, 1, 14, 184, 0, 21, 153, 0, 16, 21, 5, 133, 9, 20, 1, 16, 184, 0, 21, 154, 0, 5, 2, 172]
abbrev dktX4_putsOne_1 : List UInt8 := dkwX4_putsOne_1 ++ dktX4_putsOne_2
def dkwX4_putsOne_0 : List UInt8 := [42, 28, 182, 0, 212, 153, 0, 41, 29, 133, 9, 20, 1, 12, 184, 0, 21, 153, 0, 29, 21, 4, 133, 9]
abbrev dktX4_putsOne_0 : List UInt8 := dkwX4_putsOne_0 ++ dktX4_putsOne_1
theorem dksX4_putsOne_0 : cX4_putsOne.data.toList.drop 0 = dktX4_putsOne_0 := by decide +kernel
theorem dksX4_putsOne_1 : cX4_putsOne.data.toList.drop 24 = dktX4_putsOne_1 := dk_seg dksX4_putsOne_0 24 rfl rfl
theorem dksX4_putsOne_2 : cX4_putsOne.data.toList.drop 48 = dktX4_putsOne_2 := dk_seg dksX4_putsOne_1 24 rfl rfl
theorem dksX4_putsOne_3 : cX4_putsOne.data.toList.drop 72 = dktX4_putsOne_3 := dk_seg dksX4_putsOne_2 24 rfl rfl
theorem dksX4_putsOne_4 : cX4_putsOne.data.toList.drop 94 = dktX4_putsOne_4 := dk_seg dksX4_putsOne_3 22 rfl rfl
theorem dksX4_putsOne_5 : cX4_putsOne.data.toList.drop 118 = dktX4_putsOne_5 := dk_seg dksX4_putsOne_4 24 rfl rfl
theorem dksX4_putsOne_6 : cX4_putsOne.data.toList.drop 142 = dktX4_putsOne_6 := dk_seg dksX4_putsOne_5 24 rfl rfl
theorem dX4_putsOne_0 : decode cX4_putsOne 0 = .ok (.aload_n 0, 1) := dk_42 (dk_at dksX4_putsOne_0 0 rfl rfl)
theorem dX4_putsOne_1 : decode cX4_putsOne 1 = .ok (.iload_n 2, 1) := dk_28 (dk_at dksX4_putsOne_0 1 rfl rfl)
theorem dX4_putsOne_2 : decode cX4_putsOne 2 = .ok (.invokevirtual 212, 3) := dk_182 0 212 (dk_at dksX4_putsOne_0 2 rfl rfl)
theorem dX4_putsOne_5 : decode cX4_putsOne 5 = .ok (.ifCond .eq 41, 3) := dk_153 0 41 (dk_at dksX4_putsOne_0 5 rfl rfl)
theorem dX4_putsOne_8 : decode cX4_putsOne 8 = .ok (.iload_n 3, 1) := dk_29 (dk_at dksX4_putsOne_0 8 rfl rfl)
theorem dX4_putsOne_9 : decode cX4_putsOne 9 = .ok (.i2l, 1) := dk_133 (dk_at dksX4_putsOne_0 9 rfl rfl)
theorem dX4_putsOne_10 : decode cX4_putsOne 10 = .ok (.lconst 0, 1) := dk_9 (dk_at dksX4_putsOne_0 10 rfl rfl)
theorem dX4_putsOne_11 : decode cX4_putsOne 11 = .ok (.ldc2_w 268, 3) := dk_20 1 12 (dk_at dksX4_putsOne_0 11 rfl rfl)
theorem dX4_putsOne_14 : decode cX4_putsOne 14 = .ok (.invokestatic 21, 3) := dk_184 0 21 (dk_at dksX4_putsOne_0 14 rfl rfl)
theorem dX4_putsOne_17 : decode cX4_putsOne 17 = .ok (.ifCond .eq 29, 3) := dk_153 0 29 (dk_at dksX4_putsOne_0 17 rfl rfl)
theorem dX4_putsOne_20 : decode cX4_putsOne 20 = .ok (.iload 4, 2) := dk_21 4 (dk_at dksX4_putsOne_0 20 rfl rfl)
theorem dX4_putsOne_22 : decode cX4_putsOne 22 = .ok (.i2l, 1) := dk_133 (dk_at dksX4_putsOne_0 22 rfl rfl)
theorem dX4_putsOne_23 : decode cX4_putsOne 23 = .ok (.lconst 0, 1) := dk_9 (dk_at dksX4_putsOne_0 23 rfl rfl)
theorem dX4_putsOne_24 : decode cX4_putsOne 24 = .ok (.ldc2_w 270, 3) := dk_20 1 14 (dk_at dksX4_putsOne_1 0 rfl rfl)
theorem dX4_putsOne_27 : decode cX4_putsOne 27 = .ok (.invokestatic 21, 3) := dk_184 0 21 (dk_at dksX4_putsOne_1 3 rfl rfl)
theorem dX4_putsOne_30 : decode cX4_putsOne 30 = .ok (.ifCond .eq 16, 3) := dk_153 0 16 (dk_at dksX4_putsOne_1 6 rfl rfl)
theorem dX4_putsOne_33 : decode cX4_putsOne 33 = .ok (.iload 5, 2) := dk_21 5 (dk_at dksX4_putsOne_1 9 rfl rfl)
theorem dX4_putsOne_35 : decode cX4_putsOne 35 = .ok (.i2l, 1) := dk_133 (dk_at dksX4_putsOne_1 11 rfl rfl)
theorem dX4_putsOne_36 : decode cX4_putsOne 36 = .ok (.lconst 0, 1) := dk_9 (dk_at dksX4_putsOne_1 12 rfl rfl)
theorem dX4_putsOne_37 : decode cX4_putsOne 37 = .ok (.ldc2_w 272, 3) := dk_20 1 16 (dk_at dksX4_putsOne_1 13 rfl rfl)
theorem dX4_putsOne_40 : decode cX4_putsOne 40 = .ok (.invokestatic 21, 3) := dk_184 0 21 (dk_at dksX4_putsOne_1 16 rfl rfl)
theorem dX4_putsOne_43 : decode cX4_putsOne 43 = .ok (.ifCond .ne 5, 3) := dk_154 0 5 (dk_at dksX4_putsOne_1 19 rfl rfl)
theorem dX4_putsOne_46 : decode cX4_putsOne 46 = .ok (.iconst (-1), 1) := dk_2 (dk_at dksX4_putsOne_1 22 rfl rfl)
theorem dX4_putsOne_47 : decode cX4_putsOne 47 = .ok (.ireturn, 1) := dk_172 (dk_at dksX4_putsOne_1 23 rfl rfl)
theorem dX4_putsOne_48 : decode cX4_putsOne 48 = .ok (.aload_n 1, 1) := dk_43 (dk_at dksX4_putsOne_2 0 rfl rfl)
theorem dX4_putsOne_49 : decode cX4_putsOne 49 = .ok (.iload_n 2, 1) := dk_28 (dk_at dksX4_putsOne_2 1 rfl rfl)
theorem dX4_putsOne_50 : decode cX4_putsOne 50 = .ok (.iconst 0, 1) := dk_3 (dk_at dksX4_putsOne_2 2 rfl rfl)
theorem dX4_putsOne_51 : decode cX4_putsOne 51 = .ok (.invokestatic 220, 3) := dk_184 0 220 (dk_at dksX4_putsOne_2 3 rfl rfl)
theorem dX4_putsOne_54 : decode cX4_putsOne 54 = .ok (.aload_n 1, 1) := dk_43 (dk_at dksX4_putsOne_2 6 rfl rfl)
theorem dX4_putsOne_55 : decode cX4_putsOne 55 = .ok (.iload_n 2, 1) := dk_28 (dk_at dksX4_putsOne_2 7 rfl rfl)
theorem dX4_putsOne_56 : decode cX4_putsOne 56 = .ok (.iconst 4, 1) := dk_7 (dk_at dksX4_putsOne_2 8 rfl rfl)
theorem dX4_putsOne_57 : decode cX4_putsOne 57 = .ok (.invokestatic 220, 3) := dk_184 0 220 (dk_at dksX4_putsOne_2 9 rfl rfl)
theorem dX4_putsOne_60 : decode cX4_putsOne 60 = .ok (.isub, 1) := dk_100 (dk_at dksX4_putsOne_2 12 rfl rfl)
theorem dX4_putsOne_61 : decode cX4_putsOne 61 = .ok (.aload_n 0, 1) := dk_42 (dk_at dksX4_putsOne_2 13 rfl rfl)
theorem dX4_putsOne_62 : decode cX4_putsOne 62 = .ok (.getfield 134, 3) := dk_180 0 134 (dk_at dksX4_putsOne_2 14 rfl rfl)
theorem dX4_putsOne_65 : decode cX4_putsOne 65 = .ok (.iload_n 2, 1) := dk_28 (dk_at dksX4_putsOne_2 17 rfl rfl)
theorem dX4_putsOne_66 : decode cX4_putsOne 66 = .ok (.iaload, 1) := dk_46 (dk_at dksX4_putsOne_2 18 rfl rfl)
theorem dX4_putsOne_67 : decode cX4_putsOne 67 = .ok (.iconst 1, 1) := dk_4 (dk_at dksX4_putsOne_2 19 rfl rfl)
theorem dX4_putsOne_68 : decode cX4_putsOne 68 = .ok (.isub, 1) := dk_100 (dk_at dksX4_putsOne_2 20 rfl rfl)
theorem dX4_putsOne_69 : decode cX4_putsOne 69 = .ok (.if_icmp .lt 6, 3) := dk_161 0 6 (dk_at dksX4_putsOne_2 21 rfl rfl)
theorem dX4_putsOne_72 : decode cX4_putsOne 72 = .ok (.bipush (-2), 2) := dk_16 254 (dk_at dksX4_putsOne_3 0 rfl rfl)
theorem dX4_putsOne_74 : decode cX4_putsOne 74 = .ok (.ireturn, 1) := dk_172 (dk_at dksX4_putsOne_3 2 rfl rfl)
theorem dX4_putsOne_75 : decode cX4_putsOne 75 = .ok (.aload_n 1, 1) := dk_43 (dk_at dksX4_putsOne_3 3 rfl rfl)
theorem dX4_putsOne_76 : decode cX4_putsOne 76 = .ok (.iload_n 2, 1) := dk_28 (dk_at dksX4_putsOne_3 4 rfl rfl)
theorem dX4_putsOne_77 : decode cX4_putsOne 77 = .ok (.invokestatic 274, 3) := dk_184 1 18 (dk_at dksX4_putsOne_3 5 rfl rfl)
theorem dX4_putsOne_80 : decode cX4_putsOne 80 = .ok (.istore 6, 2) := dk_54 6 (dk_at dksX4_putsOne_3 8 rfl rfl)
theorem dX4_putsOne_82 : decode cX4_putsOne 82 = .ok (.iload 6, 2) := dk_21 6 (dk_at dksX4_putsOne_3 10 rfl rfl)
theorem dX4_putsOne_84 : decode cX4_putsOne 84 = .ok (.ifCond .ge 6, 3) := dk_156 0 6 (dk_at dksX4_putsOne_3 12 rfl rfl)
theorem dX4_putsOne_87 : decode cX4_putsOne 87 = .ok (.bipush (-3), 2) := dk_16 253 (dk_at dksX4_putsOne_3 15 rfl rfl)
theorem dX4_putsOne_89 : decode cX4_putsOne 89 = .ok (.ireturn, 1) := dk_172 (dk_at dksX4_putsOne_3 17 rfl rfl)
theorem dX4_putsOne_90 : decode cX4_putsOne 90 = .ok (.iload_n 2, 1) := dk_28 (dk_at dksX4_putsOne_3 18 rfl rfl)
theorem dX4_putsOne_91 : decode cX4_putsOne 91 = .ok (.aload_n 1, 1) := dk_43 (dk_at dksX4_putsOne_3 19 rfl rfl)
theorem dX4_putsOne_92 : decode cX4_putsOne 92 = .ok (.iload_n 2, 1) := dk_28 (dk_at dksX4_putsOne_3 20 rfl rfl)
theorem dX4_putsOne_93 : decode cX4_putsOne 93 = .ok (.iconst 0, 1) := dk_3 (dk_at dksX4_putsOne_3 21 rfl rfl)
theorem dX4_putsOne_94 : decode cX4_putsOne 94 = .ok (.invokestatic 220, 3) := dk_184 0 220 (dk_at dksX4_putsOne_4 0 rfl rfl)
theorem dX4_putsOne_97 : decode cX4_putsOne 97 = .ok (.invokestatic 239, 3) := dk_184 0 239 (dk_at dksX4_putsOne_4 3 rfl rfl)
theorem dX4_putsOne_100 : decode cX4_putsOne 100 = .ok (.istore 7, 2) := dk_54 7 (dk_at dksX4_putsOne_4 6 rfl rfl)
theorem dX4_putsOne_102 : decode cX4_putsOne 102 = .ok (.aload_n 1, 1) := dk_43 (dk_at dksX4_putsOne_4 8 rfl rfl)
theorem dX4_putsOne_103 : decode cX4_putsOne 103 = .ok (.iload 7, 2) := dk_21 7 (dk_at dksX4_putsOne_4 9 rfl rfl)
theorem dX4_putsOne_105 : decode cX4_putsOne 105 = .ok (.iconst 0, 1) := dk_3 (dk_at dksX4_putsOne_4 11 rfl rfl)
theorem dX4_putsOne_106 : decode cX4_putsOne 106 = .ok (.iadd, 1) := dk_96 (dk_at dksX4_putsOne_4 12 rfl rfl)
theorem dX4_putsOne_107 : decode cX4_putsOne 107 = .ok (.iload 6, 2) := dk_21 6 (dk_at dksX4_putsOne_4 13 rfl rfl)
theorem dX4_putsOne_109 : decode cX4_putsOne 109 = .ok (.iastore, 1) := dk_79 (dk_at dksX4_putsOne_4 15 rfl rfl)
theorem dX4_putsOne_110 : decode cX4_putsOne 110 = .ok (.aload_n 1, 1) := dk_43 (dk_at dksX4_putsOne_4 16 rfl rfl)
theorem dX4_putsOne_111 : decode cX4_putsOne 111 = .ok (.iload 7, 2) := dk_21 7 (dk_at dksX4_putsOne_4 17 rfl rfl)
theorem dX4_putsOne_113 : decode cX4_putsOne 113 = .ok (.iconst 1, 1) := dk_4 (dk_at dksX4_putsOne_4 19 rfl rfl)
theorem dX4_putsOne_114 : decode cX4_putsOne 114 = .ok (.iadd, 1) := dk_96 (dk_at dksX4_putsOne_4 20 rfl rfl)
theorem dX4_putsOne_115 : decode cX4_putsOne 115 = .ok (.iload_n 3, 1) := dk_29 (dk_at dksX4_putsOne_4 21 rfl rfl)
theorem dX4_putsOne_116 : decode cX4_putsOne 116 = .ok (.iastore, 1) := dk_79 (dk_at dksX4_putsOne_4 22 rfl rfl)
theorem dX4_putsOne_117 : decode cX4_putsOne 117 = .ok (.aload_n 1, 1) := dk_43 (dk_at dksX4_putsOne_4 23 rfl rfl)
theorem dX4_putsOne_118 : decode cX4_putsOne 118 = .ok (.iload 7, 2) := dk_21 7 (dk_at dksX4_putsOne_5 0 rfl rfl)
theorem dX4_putsOne_120 : decode cX4_putsOne 120 = .ok (.iconst 2, 1) := dk_5 (dk_at dksX4_putsOne_5 2 rfl rfl)
theorem dX4_putsOne_121 : decode cX4_putsOne 121 = .ok (.iadd, 1) := dk_96 (dk_at dksX4_putsOne_5 3 rfl rfl)
theorem dX4_putsOne_122 : decode cX4_putsOne 122 = .ok (.iload 4, 2) := dk_21 4 (dk_at dksX4_putsOne_5 4 rfl rfl)
theorem dX4_putsOne_124 : decode cX4_putsOne 124 = .ok (.iastore, 1) := dk_79 (dk_at dksX4_putsOne_5 6 rfl rfl)
theorem dX4_putsOne_125 : decode cX4_putsOne 125 = .ok (.aload_n 1, 1) := dk_43 (dk_at dksX4_putsOne_5 7 rfl rfl)
theorem dX4_putsOne_126 : decode cX4_putsOne 126 = .ok (.iload 7, 2) := dk_21 7 (dk_at dksX4_putsOne_5 8 rfl rfl)
theorem dX4_putsOne_128 : decode cX4_putsOne 128 = .ok (.iconst 3, 1) := dk_6 (dk_at dksX4_putsOne_5 10 rfl rfl)
theorem dX4_putsOne_129 : decode cX4_putsOne 129 = .ok (.iadd, 1) := dk_96 (dk_at dksX4_putsOne_5 11 rfl rfl)
theorem dX4_putsOne_130 : decode cX4_putsOne 130 = .ok (.iload 5, 2) := dk_21 5 (dk_at dksX4_putsOne_5 12 rfl rfl)
theorem dX4_putsOne_132 : decode cX4_putsOne 132 = .ok (.iastore, 1) := dk_79 (dk_at dksX4_putsOne_5 14 rfl rfl)
theorem dX4_putsOne_133 : decode cX4_putsOne 133 = .ok (.aload_n 1, 1) := dk_43 (dk_at dksX4_putsOne_5 15 rfl rfl)
theorem dX4_putsOne_134 : decode cX4_putsOne 134 = .ok (.iload 7, 2) := dk_21 7 (dk_at dksX4_putsOne_5 16 rfl rfl)
theorem dX4_putsOne_136 : decode cX4_putsOne 136 = .ok (.iconst 4, 1) := dk_7 (dk_at dksX4_putsOne_5 18 rfl rfl)
theorem dX4_putsOne_137 : decode cX4_putsOne 137 = .ok (.iadd, 1) := dk_96 (dk_at dksX4_putsOne_5 19 rfl rfl)
theorem dX4_putsOne_138 : decode cX4_putsOne 138 = .ok (.iconst 0, 1) := dk_3 (dk_at dksX4_putsOne_5 20 rfl rfl)
theorem dX4_putsOne_139 : decode cX4_putsOne 139 = .ok (.iastore, 1) := dk_79 (dk_at dksX4_putsOne_5 21 rfl rfl)
theorem dX4_putsOne_140 : decode cX4_putsOne 140 = .ok (.aload_n 1, 1) := dk_43 (dk_at dksX4_putsOne_5 22 rfl rfl)
theorem dX4_putsOne_141 : decode cX4_putsOne 141 = .ok (.iload_n 2, 1) := dk_28 (dk_at dksX4_putsOne_5 23 rfl rfl)
theorem dX4_putsOne_142 : decode cX4_putsOne 142 = .ok (.iconst 0, 1) := dk_3 (dk_at dksX4_putsOne_6 0 rfl rfl)
theorem dX4_putsOne_143 : decode cX4_putsOne 143 = .ok (.aload_n 1, 1) := dk_43 (dk_at dksX4_putsOne_6 1 rfl rfl)
theorem dX4_putsOne_144 : decode cX4_putsOne 144 = .ok (.iload_n 2, 1) := dk_28 (dk_at dksX4_putsOne_6 2 rfl rfl)
theorem dX4_putsOne_145 : decode cX4_putsOne 145 = .ok (.iconst 0, 1) := dk_3 (dk_at dksX4_putsOne_6 3 rfl rfl)
theorem dX4_putsOne_146 : decode cX4_putsOne 146 = .ok (.invokestatic 220, 3) := dk_184 0 220 (dk_at dksX4_putsOne_6 4 rfl rfl)
theorem dX4_putsOne_149 : decode cX4_putsOne 149 = .ok (.iconst 1, 1) := dk_4 (dk_at dksX4_putsOne_6 7 rfl rfl)
theorem dX4_putsOne_150 : decode cX4_putsOne 150 = .ok (.iadd, 1) := dk_96 (dk_at dksX4_putsOne_6 8 rfl rfl)
theorem dX4_putsOne_151 : decode cX4_putsOne 151 = .ok (.invokestatic 278, 3) := dk_184 1 22 (dk_at dksX4_putsOne_6 9 rfl rfl)
theorem dX4_putsOne_154 : decode cX4_putsOne 154 = .ok (.iload 6, 2) := dk_21 6 (dk_at dksX4_putsOne_6 12 rfl rfl)
theorem dX4_putsOne_156 : decode cX4_putsOne 156 = .ok (.ireturn, 1) := dk_172 (dk_at dksX4_putsOne_6 14 rfl rfl)
abbrev cX4_freeId : ByteArray := prog_13_method_46_code
def yX4_freeId : MethodName := ⟨RX4, "freeId", "([II)I"⟩
def dkwX4_freeId_1 : List UInt8 := [16, 16, 160, 0, 7, 2, 167, 0, 4, 28, 172]
abbrev dktX4_freeId_1 : List UInt8 := dkwX4_freeId_1 ++ []
def dkwX4_freeId_0 : List UInt8 := [3, 61, 28, 16, 16, 162, 0, 18, 42, 27, 28, 184, 1, 9, 153, 0, 9, 132, 2, 1, 167, 255, 238, 28]
abbrev dktX4_freeId_0 : List UInt8 := dkwX4_freeId_0 ++ dktX4_freeId_1
theorem dksX4_freeId_0 : cX4_freeId.data.toList.drop 0 = dktX4_freeId_0 := by decide +kernel
theorem dksX4_freeId_1 : cX4_freeId.data.toList.drop 24 = dktX4_freeId_1 := dk_seg dksX4_freeId_0 24 rfl rfl
theorem dX4_freeId_0 : decode cX4_freeId 0 = .ok (.iconst 0, 1) := dk_3 (dk_at dksX4_freeId_0 0 rfl rfl)
theorem dX4_freeId_1 : decode cX4_freeId 1 = .ok (.istore_n 2, 1) := dk_61 (dk_at dksX4_freeId_0 1 rfl rfl)
theorem dX4_freeId_2 : decode cX4_freeId 2 = .ok (.iload_n 2, 1) := dk_28 (dk_at dksX4_freeId_0 2 rfl rfl)
theorem dX4_freeId_3 : decode cX4_freeId 3 = .ok (.bipush 16, 2) := dk_16 16 (dk_at dksX4_freeId_0 3 rfl rfl)
theorem dX4_freeId_5 : decode cX4_freeId 5 = .ok (.if_icmp .ge 18, 3) := dk_162 0 18 (dk_at dksX4_freeId_0 5 rfl rfl)
theorem dX4_freeId_8 : decode cX4_freeId 8 = .ok (.aload_n 0, 1) := dk_42 (dk_at dksX4_freeId_0 8 rfl rfl)
theorem dX4_freeId_9 : decode cX4_freeId 9 = .ok (.iload_n 1, 1) := dk_27 (dk_at dksX4_freeId_0 9 rfl rfl)
theorem dX4_freeId_10 : decode cX4_freeId 10 = .ok (.iload_n 2, 1) := dk_28 (dk_at dksX4_freeId_0 10 rfl rfl)
theorem dX4_freeId_11 : decode cX4_freeId 11 = .ok (.invokestatic 265, 3) := dk_184 1 9 (dk_at dksX4_freeId_0 11 rfl rfl)
theorem dX4_freeId_14 : decode cX4_freeId 14 = .ok (.ifCond .eq 9, 3) := dk_153 0 9 (dk_at dksX4_freeId_0 14 rfl rfl)
theorem dX4_freeId_17 : decode cX4_freeId 17 = .ok (.iinc 2 1, 3) := dk_132 2 1 (dk_at dksX4_freeId_0 17 rfl rfl)
theorem dX4_freeId_20 : decode cX4_freeId 20 = .ok (.goto (-18), 3) := dk_167 255 238 (dk_at dksX4_freeId_0 20 rfl rfl)
theorem dX4_freeId_23 : decode cX4_freeId 23 = .ok (.iload_n 2, 1) := dk_28 (dk_at dksX4_freeId_0 23 rfl rfl)
theorem dX4_freeId_24 : decode cX4_freeId 24 = .ok (.bipush 16, 2) := dk_16 16 (dk_at dksX4_freeId_1 0 rfl rfl)
theorem dX4_freeId_26 : decode cX4_freeId 26 = .ok (.if_icmp .ne 7, 3) := dk_160 0 7 (dk_at dksX4_freeId_1 2 rfl rfl)
theorem dX4_freeId_29 : decode cX4_freeId 29 = .ok (.iconst (-1), 1) := dk_2 (dk_at dksX4_freeId_1 5 rfl rfl)
theorem dX4_freeId_30 : decode cX4_freeId 30 = .ok (.goto 4, 3) := dk_167 0 4 (dk_at dksX4_freeId_1 6 rfl rfl)
theorem dX4_freeId_33 : decode cX4_freeId 33 = .ok (.iload_n 2, 1) := dk_28 (dk_at dksX4_freeId_1 9 rfl rfl)
theorem dX4_freeId_34 : decode cX4_freeId 34 = .ok (.ireturn, 1) := dk_172 (dk_at dksX4_freeId_1 10 rfl rfl)
abbrev cX4_isUsed : ByteArray := prog_13_method_45_code
def yX4_isUsed : MethodName := ⟨RX4, "isUsed", "([III)Z"⟩
def dkwX4_isUsed_1 : List UInt8 := [156, 0, 12, 42, 27, 28, 184, 1, 5, 153, 0, 7, 4, 167, 0, 4, 3, 172]
abbrev dktX4_isUsed_1 : List UInt8 := dkwX4_isUsed_1 ++ []
def dkwX4_isUsed_0 : List UInt8 := [42, 27, 28, 184, 0, 252, 156, 0, 30, 42, 27, 28, 184, 0, 255, 156, 0, 21, 42, 27, 28, 184, 1, 2]
abbrev dktX4_isUsed_0 : List UInt8 := dkwX4_isUsed_0 ++ dktX4_isUsed_1
theorem dksX4_isUsed_0 : cX4_isUsed.data.toList.drop 0 = dktX4_isUsed_0 := by decide +kernel
theorem dksX4_isUsed_1 : cX4_isUsed.data.toList.drop 24 = dktX4_isUsed_1 := dk_seg dksX4_isUsed_0 24 rfl rfl
theorem dX4_isUsed_0 : decode cX4_isUsed 0 = .ok (.aload_n 0, 1) := dk_42 (dk_at dksX4_isUsed_0 0 rfl rfl)
theorem dX4_isUsed_1 : decode cX4_isUsed 1 = .ok (.iload_n 1, 1) := dk_27 (dk_at dksX4_isUsed_0 1 rfl rfl)
theorem dX4_isUsed_2 : decode cX4_isUsed 2 = .ok (.iload_n 2, 1) := dk_28 (dk_at dksX4_isUsed_0 2 rfl rfl)
theorem dX4_isUsed_3 : decode cX4_isUsed 3 = .ok (.invokestatic 252, 3) := dk_184 0 252 (dk_at dksX4_isUsed_0 3 rfl rfl)
theorem dX4_isUsed_6 : decode cX4_isUsed 6 = .ok (.ifCond .ge 30, 3) := dk_156 0 30 (dk_at dksX4_isUsed_0 6 rfl rfl)
theorem dX4_isUsed_9 : decode cX4_isUsed 9 = .ok (.aload_n 0, 1) := dk_42 (dk_at dksX4_isUsed_0 9 rfl rfl)
theorem dX4_isUsed_10 : decode cX4_isUsed 10 = .ok (.iload_n 1, 1) := dk_27 (dk_at dksX4_isUsed_0 10 rfl rfl)
theorem dX4_isUsed_11 : decode cX4_isUsed 11 = .ok (.iload_n 2, 1) := dk_28 (dk_at dksX4_isUsed_0 11 rfl rfl)
theorem dX4_isUsed_12 : decode cX4_isUsed 12 = .ok (.invokestatic 255, 3) := dk_184 0 255 (dk_at dksX4_isUsed_0 12 rfl rfl)
theorem dX4_isUsed_15 : decode cX4_isUsed 15 = .ok (.ifCond .ge 21, 3) := dk_156 0 21 (dk_at dksX4_isUsed_0 15 rfl rfl)
theorem dX4_isUsed_18 : decode cX4_isUsed 18 = .ok (.aload_n 0, 1) := dk_42 (dk_at dksX4_isUsed_0 18 rfl rfl)
theorem dX4_isUsed_19 : decode cX4_isUsed 19 = .ok (.iload_n 1, 1) := dk_27 (dk_at dksX4_isUsed_0 19 rfl rfl)
theorem dX4_isUsed_20 : decode cX4_isUsed 20 = .ok (.iload_n 2, 1) := dk_28 (dk_at dksX4_isUsed_0 20 rfl rfl)
theorem dX4_isUsed_21 : decode cX4_isUsed 21 = .ok (.invokestatic 258, 3) := dk_184 1 2 (dk_at dksX4_isUsed_0 21 rfl rfl)
theorem dX4_isUsed_24 : decode cX4_isUsed 24 = .ok (.ifCond .ge 12, 3) := dk_156 0 12 (dk_at dksX4_isUsed_1 0 rfl rfl)
theorem dX4_isUsed_27 : decode cX4_isUsed 27 = .ok (.aload_n 0, 1) := dk_42 (dk_at dksX4_isUsed_1 3 rfl rfl)
theorem dX4_isUsed_28 : decode cX4_isUsed 28 = .ok (.iload_n 1, 1) := dk_27 (dk_at dksX4_isUsed_1 4 rfl rfl)
theorem dX4_isUsed_29 : decode cX4_isUsed 29 = .ok (.iload_n 2, 1) := dk_28 (dk_at dksX4_isUsed_1 5 rfl rfl)
theorem dX4_isUsed_30 : decode cX4_isUsed 30 = .ok (.invokestatic 261, 3) := dk_184 1 5 (dk_at dksX4_isUsed_1 6 rfl rfl)
theorem dX4_isUsed_33 : decode cX4_isUsed 33 = .ok (.ifCond .eq 7, 3) := dk_153 0 7 (dk_at dksX4_isUsed_1 9 rfl rfl)
theorem dX4_isUsed_36 : decode cX4_isUsed 36 = .ok (.iconst 1, 1) := dk_4 (dk_at dksX4_isUsed_1 12 rfl rfl)
theorem dX4_isUsed_37 : decode cX4_isUsed 37 = .ok (.goto 4, 3) := dk_167 0 4 (dk_at dksX4_isUsed_1 13 rfl rfl)
theorem dX4_isUsed_40 : decode cX4_isUsed 40 = .ok (.iconst 0, 1) := dk_3 (dk_at dksX4_isUsed_1 16 rfl rfl)
theorem dX4_isUsed_41 : decode cX4_isUsed 41 = .ok (.ireturn, 1) := dk_172 (dk_at dksX4_isUsed_1 17 rfl rfl)
abbrev cX4_ringOf : ByteArray := prog_13_method_41_code
def yX4_ringOf : MethodName := ⟨RX4, "ringOf", "([III)I"⟩
def dkwX4_ringOf_1 : List UInt8 := [96, 46, 28, 160, 0, 12, 29, 42, 27, 6, 184, 0, 220, 100, 172, 132, 3, 1, 167, 255, 221, 2, 172]
abbrev dktX4_ringOf_1 : List UInt8 := dkwX4_ringOf_1 ++ []
def dkwX4_ringOf_0 : List UInt8 := [42, 27, 6, 184, 0, 220, 62, 29, 42, 27, 3, 184, 0, 220, 162, 0, 31, 42, 27, 29, 184, 0, 239, 3]
abbrev dktX4_ringOf_0 : List UInt8 := dkwX4_ringOf_0 ++ dktX4_ringOf_1
theorem dksX4_ringOf_0 : cX4_ringOf.data.toList.drop 0 = dktX4_ringOf_0 := by decide +kernel
theorem dksX4_ringOf_1 : cX4_ringOf.data.toList.drop 24 = dktX4_ringOf_1 := dk_seg dksX4_ringOf_0 24 rfl rfl
theorem dX4_ringOf_0 : decode cX4_ringOf 0 = .ok (.aload_n 0, 1) := dk_42 (dk_at dksX4_ringOf_0 0 rfl rfl)
theorem dX4_ringOf_1 : decode cX4_ringOf 1 = .ok (.iload_n 1, 1) := dk_27 (dk_at dksX4_ringOf_0 1 rfl rfl)
theorem dX4_ringOf_2 : decode cX4_ringOf 2 = .ok (.iconst 3, 1) := dk_6 (dk_at dksX4_ringOf_0 2 rfl rfl)
theorem dX4_ringOf_3 : decode cX4_ringOf 3 = .ok (.invokestatic 220, 3) := dk_184 0 220 (dk_at dksX4_ringOf_0 3 rfl rfl)
theorem dX4_ringOf_6 : decode cX4_ringOf 6 = .ok (.istore_n 3, 1) := dk_62 (dk_at dksX4_ringOf_0 6 rfl rfl)
theorem dX4_ringOf_7 : decode cX4_ringOf 7 = .ok (.iload_n 3, 1) := dk_29 (dk_at dksX4_ringOf_0 7 rfl rfl)
theorem dX4_ringOf_8 : decode cX4_ringOf 8 = .ok (.aload_n 0, 1) := dk_42 (dk_at dksX4_ringOf_0 8 rfl rfl)
theorem dX4_ringOf_9 : decode cX4_ringOf 9 = .ok (.iload_n 1, 1) := dk_27 (dk_at dksX4_ringOf_0 9 rfl rfl)
theorem dX4_ringOf_10 : decode cX4_ringOf 10 = .ok (.iconst 0, 1) := dk_3 (dk_at dksX4_ringOf_0 10 rfl rfl)
theorem dX4_ringOf_11 : decode cX4_ringOf 11 = .ok (.invokestatic 220, 3) := dk_184 0 220 (dk_at dksX4_ringOf_0 11 rfl rfl)
theorem dX4_ringOf_14 : decode cX4_ringOf 14 = .ok (.if_icmp .ge 31, 3) := dk_162 0 31 (dk_at dksX4_ringOf_0 14 rfl rfl)
theorem dX4_ringOf_17 : decode cX4_ringOf 17 = .ok (.aload_n 0, 1) := dk_42 (dk_at dksX4_ringOf_0 17 rfl rfl)
theorem dX4_ringOf_18 : decode cX4_ringOf 18 = .ok (.iload_n 1, 1) := dk_27 (dk_at dksX4_ringOf_0 18 rfl rfl)
theorem dX4_ringOf_19 : decode cX4_ringOf 19 = .ok (.iload_n 3, 1) := dk_29 (dk_at dksX4_ringOf_0 19 rfl rfl)
theorem dX4_ringOf_20 : decode cX4_ringOf 20 = .ok (.invokestatic 239, 3) := dk_184 0 239 (dk_at dksX4_ringOf_0 20 rfl rfl)
theorem dX4_ringOf_23 : decode cX4_ringOf 23 = .ok (.iconst 0, 1) := dk_3 (dk_at dksX4_ringOf_0 23 rfl rfl)
theorem dX4_ringOf_24 : decode cX4_ringOf 24 = .ok (.iadd, 1) := dk_96 (dk_at dksX4_ringOf_1 0 rfl rfl)
theorem dX4_ringOf_25 : decode cX4_ringOf 25 = .ok (.iaload, 1) := dk_46 (dk_at dksX4_ringOf_1 1 rfl rfl)
theorem dX4_ringOf_26 : decode cX4_ringOf 26 = .ok (.iload_n 2, 1) := dk_28 (dk_at dksX4_ringOf_1 2 rfl rfl)
theorem dX4_ringOf_27 : decode cX4_ringOf 27 = .ok (.if_icmp .ne 12, 3) := dk_160 0 12 (dk_at dksX4_ringOf_1 3 rfl rfl)
theorem dX4_ringOf_30 : decode cX4_ringOf 30 = .ok (.iload_n 3, 1) := dk_29 (dk_at dksX4_ringOf_1 6 rfl rfl)
theorem dX4_ringOf_31 : decode cX4_ringOf 31 = .ok (.aload_n 0, 1) := dk_42 (dk_at dksX4_ringOf_1 7 rfl rfl)
theorem dX4_ringOf_32 : decode cX4_ringOf 32 = .ok (.iload_n 1, 1) := dk_27 (dk_at dksX4_ringOf_1 8 rfl rfl)
theorem dX4_ringOf_33 : decode cX4_ringOf 33 = .ok (.iconst 3, 1) := dk_6 (dk_at dksX4_ringOf_1 9 rfl rfl)
theorem dX4_ringOf_34 : decode cX4_ringOf 34 = .ok (.invokestatic 220, 3) := dk_184 0 220 (dk_at dksX4_ringOf_1 10 rfl rfl)
theorem dX4_ringOf_37 : decode cX4_ringOf 37 = .ok (.isub, 1) := dk_100 (dk_at dksX4_ringOf_1 13 rfl rfl)
theorem dX4_ringOf_38 : decode cX4_ringOf 38 = .ok (.ireturn, 1) := dk_172 (dk_at dksX4_ringOf_1 14 rfl rfl)
theorem dX4_ringOf_39 : decode cX4_ringOf 39 = .ok (.iinc 3 1, 3) := dk_132 3 1 (dk_at dksX4_ringOf_1 15 rfl rfl)
theorem dX4_ringOf_42 : decode cX4_ringOf 42 = .ok (.goto (-35), 3) := dk_167 255 221 (dk_at dksX4_ringOf_1 18 rfl rfl)
theorem dX4_ringOf_45 : decode cX4_ringOf 45 = .ok (.iconst (-1), 1) := dk_2 (dk_at dksX4_ringOf_1 21 rfl rfl)
theorem dX4_ringOf_46 : decode cX4_ringOf 46 = .ok (.ireturn, 1) := dk_172 (dk_at dksX4_ringOf_1 22 rfl rfl)
abbrev cX4_ringAt : ByteArray := prog_13_method_28_code
def yX4_ringAt : MethodName := ⟨RX4, "ringAt", "(II)I"⟩
def dkwX4_ringAt_0 : List UInt8 := [16, 89, 26, 104, 16, 9, 96, 8, 27, 16, 8, 112, 104, 96, 172]
abbrev dktX4_ringAt_0 : List UInt8 := dkwX4_ringAt_0 ++ []
theorem dksX4_ringAt_0 : cX4_ringAt.data.toList.drop 0 = dktX4_ringAt_0 := by decide +kernel
theorem dX4_ringAt_0 : decode cX4_ringAt 0 = .ok (.bipush 89, 2) := dk_16 89 (dk_at dksX4_ringAt_0 0 rfl rfl)
theorem dX4_ringAt_2 : decode cX4_ringAt 2 = .ok (.iload_n 0, 1) := dk_26 (dk_at dksX4_ringAt_0 2 rfl rfl)
theorem dX4_ringAt_3 : decode cX4_ringAt 3 = .ok (.imul, 1) := dk_104 (dk_at dksX4_ringAt_0 3 rfl rfl)
theorem dX4_ringAt_4 : decode cX4_ringAt 4 = .ok (.bipush 9, 2) := dk_16 9 (dk_at dksX4_ringAt_0 4 rfl rfl)
theorem dX4_ringAt_6 : decode cX4_ringAt 6 = .ok (.iadd, 1) := dk_96 (dk_at dksX4_ringAt_0 6 rfl rfl)
theorem dX4_ringAt_7 : decode cX4_ringAt 7 = .ok (.iconst 5, 1) := dk_8 (dk_at dksX4_ringAt_0 7 rfl rfl)
theorem dX4_ringAt_8 : decode cX4_ringAt 8 = .ok (.iload_n 1, 1) := dk_27 (dk_at dksX4_ringAt_0 8 rfl rfl)
theorem dX4_ringAt_9 : decode cX4_ringAt 9 = .ok (.bipush 8, 2) := dk_16 8 (dk_at dksX4_ringAt_0 9 rfl rfl)
theorem dX4_ringAt_11 : decode cX4_ringAt 11 = .ok (.irem, 1) := dk_112 (dk_at dksX4_ringAt_0 11 rfl rfl)
theorem dX4_ringAt_12 : decode cX4_ringAt 12 = .ok (.imul, 1) := dk_104 (dk_at dksX4_ringAt_0 12 rfl rfl)
theorem dX4_ringAt_13 : decode cX4_ringAt 13 = .ok (.iadd, 1) := dk_96 (dk_at dksX4_ringAt_0 13 rfl rfl)
theorem dX4_ringAt_14 : decode cX4_ringAt 14 = .ok (.ireturn, 1) := dk_172 (dk_at dksX4_ringAt_0 14 rfl rfl)
abbrev cX4_runOf : ByteArray := prog_13_method_42_code
def yX4_runOf : MethodName := ⟨RX4, "runOf", "([III)I"⟩
def dkwX4_runOf_3 : List UInt8 := [153, 0, 5, 29, 172, 132, 3, 1, 167, 255, 181, 2, 172]
abbrev dktX4_runOf_3 : List UInt8 := dkwX4_runOf_3 ++ []
def dkwX4_runOf_2 : List UInt8 := [160, 0, 7, 4, 167, 0, 4, 3, 54, 4, 42, 29, 184, 0, 236, 3, 96, 46, 27, 160, 0, 10, 21, 4]
abbrev dktX4_runOf_2 : List UInt8 := dkwX4_runOf_2 ++ dktX4_runOf_3
def dkwX4_runOf_1 : List UInt8 := [159, 0, 26, 42, 29, 184, 0, 242, 153, 0, 22, 42, 29, 184, 0, 236, 16, 6, 96, 3, 96, 46, 28]
abbrev dktX4_runOf_1 : List UInt8 := dkwX4_runOf_1 ++ dktX4_runOf_2
def dkwX4_runOf_0 : List UInt8 := [3, 62, 29, 42, 17, 1, 237, 46, 162, 0, 72, 42, 29, 184, 0, 236, 4, 96, 3, 96, 46, 28]
abbrev dktX4_runOf_0 : List UInt8 := dkwX4_runOf_0 ++ dktX4_runOf_1
theorem dksX4_runOf_0 : cX4_runOf.data.toList.drop 0 = dktX4_runOf_0 := by decide +kernel
theorem dksX4_runOf_1 : cX4_runOf.data.toList.drop 22 = dktX4_runOf_1 := dk_seg dksX4_runOf_0 22 rfl rfl
theorem dksX4_runOf_2 : cX4_runOf.data.toList.drop 45 = dktX4_runOf_2 := dk_seg dksX4_runOf_1 23 rfl rfl
theorem dksX4_runOf_3 : cX4_runOf.data.toList.drop 69 = dktX4_runOf_3 := dk_seg dksX4_runOf_2 24 rfl rfl
theorem dX4_runOf_0 : decode cX4_runOf 0 = .ok (.iconst 0, 1) := dk_3 (dk_at dksX4_runOf_0 0 rfl rfl)
theorem dX4_runOf_1 : decode cX4_runOf 1 = .ok (.istore_n 3, 1) := dk_62 (dk_at dksX4_runOf_0 1 rfl rfl)
theorem dX4_runOf_2 : decode cX4_runOf 2 = .ok (.iload_n 3, 1) := dk_29 (dk_at dksX4_runOf_0 2 rfl rfl)
theorem dX4_runOf_3 : decode cX4_runOf 3 = .ok (.aload_n 0, 1) := dk_42 (dk_at dksX4_runOf_0 3 rfl rfl)
theorem dX4_runOf_4 : decode cX4_runOf 4 = .ok (.sipush 493, 3) := dk_17 1 237 (dk_at dksX4_runOf_0 4 rfl rfl)
theorem dX4_runOf_7 : decode cX4_runOf 7 = .ok (.iaload, 1) := dk_46 (dk_at dksX4_runOf_0 7 rfl rfl)
theorem dX4_runOf_8 : decode cX4_runOf 8 = .ok (.if_icmp .ge 72, 3) := dk_162 0 72 (dk_at dksX4_runOf_0 8 rfl rfl)
theorem dX4_runOf_11 : decode cX4_runOf 11 = .ok (.aload_n 0, 1) := dk_42 (dk_at dksX4_runOf_0 11 rfl rfl)
theorem dX4_runOf_12 : decode cX4_runOf 12 = .ok (.iload_n 3, 1) := dk_29 (dk_at dksX4_runOf_0 12 rfl rfl)
theorem dX4_runOf_13 : decode cX4_runOf 13 = .ok (.invokestatic 236, 3) := dk_184 0 236 (dk_at dksX4_runOf_0 13 rfl rfl)
theorem dX4_runOf_16 : decode cX4_runOf 16 = .ok (.iconst 1, 1) := dk_4 (dk_at dksX4_runOf_0 16 rfl rfl)
theorem dX4_runOf_17 : decode cX4_runOf 17 = .ok (.iadd, 1) := dk_96 (dk_at dksX4_runOf_0 17 rfl rfl)
theorem dX4_runOf_18 : decode cX4_runOf 18 = .ok (.iconst 0, 1) := dk_3 (dk_at dksX4_runOf_0 18 rfl rfl)
theorem dX4_runOf_19 : decode cX4_runOf 19 = .ok (.iadd, 1) := dk_96 (dk_at dksX4_runOf_0 19 rfl rfl)
theorem dX4_runOf_20 : decode cX4_runOf 20 = .ok (.iaload, 1) := dk_46 (dk_at dksX4_runOf_0 20 rfl rfl)
theorem dX4_runOf_21 : decode cX4_runOf 21 = .ok (.iload_n 2, 1) := dk_28 (dk_at dksX4_runOf_0 21 rfl rfl)
theorem dX4_runOf_22 : decode cX4_runOf 22 = .ok (.if_icmp .eq 26, 3) := dk_159 0 26 (dk_at dksX4_runOf_1 0 rfl rfl)
theorem dX4_runOf_25 : decode cX4_runOf 25 = .ok (.aload_n 0, 1) := dk_42 (dk_at dksX4_runOf_1 3 rfl rfl)
theorem dX4_runOf_26 : decode cX4_runOf 26 = .ok (.iload_n 3, 1) := dk_29 (dk_at dksX4_runOf_1 4 rfl rfl)
theorem dX4_runOf_27 : decode cX4_runOf 27 = .ok (.invokestatic 242, 3) := dk_184 0 242 (dk_at dksX4_runOf_1 5 rfl rfl)
theorem dX4_runOf_30 : decode cX4_runOf 30 = .ok (.ifCond .eq 22, 3) := dk_153 0 22 (dk_at dksX4_runOf_1 8 rfl rfl)
theorem dX4_runOf_33 : decode cX4_runOf 33 = .ok (.aload_n 0, 1) := dk_42 (dk_at dksX4_runOf_1 11 rfl rfl)
theorem dX4_runOf_34 : decode cX4_runOf 34 = .ok (.iload_n 3, 1) := dk_29 (dk_at dksX4_runOf_1 12 rfl rfl)
theorem dX4_runOf_35 : decode cX4_runOf 35 = .ok (.invokestatic 236, 3) := dk_184 0 236 (dk_at dksX4_runOf_1 13 rfl rfl)
theorem dX4_runOf_38 : decode cX4_runOf 38 = .ok (.bipush 6, 2) := dk_16 6 (dk_at dksX4_runOf_1 16 rfl rfl)
theorem dX4_runOf_40 : decode cX4_runOf 40 = .ok (.iadd, 1) := dk_96 (dk_at dksX4_runOf_1 18 rfl rfl)
theorem dX4_runOf_41 : decode cX4_runOf 41 = .ok (.iconst 0, 1) := dk_3 (dk_at dksX4_runOf_1 19 rfl rfl)
theorem dX4_runOf_42 : decode cX4_runOf 42 = .ok (.iadd, 1) := dk_96 (dk_at dksX4_runOf_1 20 rfl rfl)
theorem dX4_runOf_43 : decode cX4_runOf 43 = .ok (.iaload, 1) := dk_46 (dk_at dksX4_runOf_1 21 rfl rfl)
theorem dX4_runOf_44 : decode cX4_runOf 44 = .ok (.iload_n 2, 1) := dk_28 (dk_at dksX4_runOf_1 22 rfl rfl)
theorem dX4_runOf_45 : decode cX4_runOf 45 = .ok (.if_icmp .ne 7, 3) := dk_160 0 7 (dk_at dksX4_runOf_2 0 rfl rfl)
theorem dX4_runOf_48 : decode cX4_runOf 48 = .ok (.iconst 1, 1) := dk_4 (dk_at dksX4_runOf_2 3 rfl rfl)
theorem dX4_runOf_49 : decode cX4_runOf 49 = .ok (.goto 4, 3) := dk_167 0 4 (dk_at dksX4_runOf_2 4 rfl rfl)
theorem dX4_runOf_52 : decode cX4_runOf 52 = .ok (.iconst 0, 1) := dk_3 (dk_at dksX4_runOf_2 7 rfl rfl)
theorem dX4_runOf_53 : decode cX4_runOf 53 = .ok (.istore 4, 2) := dk_54 4 (dk_at dksX4_runOf_2 8 rfl rfl)
theorem dX4_runOf_55 : decode cX4_runOf 55 = .ok (.aload_n 0, 1) := dk_42 (dk_at dksX4_runOf_2 10 rfl rfl)
theorem dX4_runOf_56 : decode cX4_runOf 56 = .ok (.iload_n 3, 1) := dk_29 (dk_at dksX4_runOf_2 11 rfl rfl)
theorem dX4_runOf_57 : decode cX4_runOf 57 = .ok (.invokestatic 236, 3) := dk_184 0 236 (dk_at dksX4_runOf_2 12 rfl rfl)
theorem dX4_runOf_60 : decode cX4_runOf 60 = .ok (.iconst 0, 1) := dk_3 (dk_at dksX4_runOf_2 15 rfl rfl)
theorem dX4_runOf_61 : decode cX4_runOf 61 = .ok (.iadd, 1) := dk_96 (dk_at dksX4_runOf_2 16 rfl rfl)
theorem dX4_runOf_62 : decode cX4_runOf 62 = .ok (.iaload, 1) := dk_46 (dk_at dksX4_runOf_2 17 rfl rfl)
theorem dX4_runOf_63 : decode cX4_runOf 63 = .ok (.iload_n 1, 1) := dk_27 (dk_at dksX4_runOf_2 18 rfl rfl)
theorem dX4_runOf_64 : decode cX4_runOf 64 = .ok (.if_icmp .ne 10, 3) := dk_160 0 10 (dk_at dksX4_runOf_2 19 rfl rfl)
theorem dX4_runOf_67 : decode cX4_runOf 67 = .ok (.iload 4, 2) := dk_21 4 (dk_at dksX4_runOf_2 22 rfl rfl)
theorem dX4_runOf_69 : decode cX4_runOf 69 = .ok (.ifCond .eq 5, 3) := dk_153 0 5 (dk_at dksX4_runOf_3 0 rfl rfl)
theorem dX4_runOf_72 : decode cX4_runOf 72 = .ok (.iload_n 3, 1) := dk_29 (dk_at dksX4_runOf_3 3 rfl rfl)
theorem dX4_runOf_73 : decode cX4_runOf 73 = .ok (.ireturn, 1) := dk_172 (dk_at dksX4_runOf_3 4 rfl rfl)
theorem dX4_runOf_74 : decode cX4_runOf 74 = .ok (.iinc 3 1, 3) := dk_132 3 1 (dk_at dksX4_runOf_3 5 rfl rfl)
theorem dX4_runOf_77 : decode cX4_runOf 77 = .ok (.goto (-75), 3) := dk_167 255 181 (dk_at dksX4_runOf_3 8 rfl rfl)
theorem dX4_runOf_80 : decode cX4_runOf 80 = .ok (.iconst (-1), 1) := dk_2 (dk_at dksX4_runOf_3 11 rfl rfl)
theorem dX4_runOf_81 : decode cX4_runOf 81 = .ok (.ireturn, 1) := dk_172 (dk_at dksX4_runOf_3 12 rfl rfl)
abbrev cX4_runAt : ByteArray := prog_13_method_38_code
def yX4_runAt : MethodName := ⟨RX4, "runAt", "(I)I"⟩
def dkwX4_runAt_0 : List UInt8 := [17, 1, 189, 16, 12, 26, 104, 96, 172]
abbrev dktX4_runAt_0 : List UInt8 := dkwX4_runAt_0 ++ []
theorem dksX4_runAt_0 : cX4_runAt.data.toList.drop 0 = dktX4_runAt_0 := by decide +kernel
theorem dX4_runAt_0 : decode cX4_runAt 0 = .ok (.sipush 445, 3) := dk_17 1 189 (dk_at dksX4_runAt_0 0 rfl rfl)
theorem dX4_runAt_3 : decode cX4_runAt 3 = .ok (.bipush 12, 2) := dk_16 12 (dk_at dksX4_runAt_0 3 rfl rfl)
theorem dX4_runAt_5 : decode cX4_runAt 5 = .ok (.iload_n 0, 1) := dk_26 (dk_at dksX4_runAt_0 5 rfl rfl)
theorem dX4_runAt_6 : decode cX4_runAt 6 = .ok (.imul, 1) := dk_104 (dk_at dksX4_runAt_0 6 rfl rfl)
theorem dX4_runAt_7 : decode cX4_runAt 7 = .ok (.iadd, 1) := dk_96 (dk_at dksX4_runAt_0 7 rfl rfl)
theorem dX4_runAt_8 : decode cX4_runAt 8 = .ok (.ireturn, 1) := dk_172 (dk_at dksX4_runAt_0 8 rfl rfl)
abbrev cX4_hasSecond : ByteArray := prog_13_method_40_code
def yX4_hasSecond : MethodName := ⟨RX4, "hasSecond", "([II)Z"⟩
def dkwX4_hasSecond_0 : List UInt8 := [42, 27, 184, 0, 236, 16, 6, 96, 4, 96, 46, 155, 0, 7, 4, 167, 0, 4, 3, 172]
abbrev dktX4_hasSecond_0 : List UInt8 := dkwX4_hasSecond_0 ++ []
theorem dksX4_hasSecond_0 : cX4_hasSecond.data.toList.drop 0 = dktX4_hasSecond_0 := by decide +kernel
theorem dX4_hasSecond_0 : decode cX4_hasSecond 0 = .ok (.aload_n 0, 1) := dk_42 (dk_at dksX4_hasSecond_0 0 rfl rfl)
theorem dX4_hasSecond_1 : decode cX4_hasSecond 1 = .ok (.iload_n 1, 1) := dk_27 (dk_at dksX4_hasSecond_0 1 rfl rfl)
theorem dX4_hasSecond_2 : decode cX4_hasSecond 2 = .ok (.invokestatic 236, 3) := dk_184 0 236 (dk_at dksX4_hasSecond_0 2 rfl rfl)
theorem dX4_hasSecond_5 : decode cX4_hasSecond 5 = .ok (.bipush 6, 2) := dk_16 6 (dk_at dksX4_hasSecond_0 5 rfl rfl)
theorem dX4_hasSecond_7 : decode cX4_hasSecond 7 = .ok (.iadd, 1) := dk_96 (dk_at dksX4_hasSecond_0 7 rfl rfl)
theorem dX4_hasSecond_8 : decode cX4_hasSecond 8 = .ok (.iconst 1, 1) := dk_4 (dk_at dksX4_hasSecond_0 8 rfl rfl)
theorem dX4_hasSecond_9 : decode cX4_hasSecond 9 = .ok (.iadd, 1) := dk_96 (dk_at dksX4_hasSecond_0 9 rfl rfl)
theorem dX4_hasSecond_10 : decode cX4_hasSecond 10 = .ok (.iaload, 1) := dk_46 (dk_at dksX4_hasSecond_0 10 rfl rfl)
theorem dX4_hasSecond_11 : decode cX4_hasSecond 11 = .ok (.ifCond .lt 7, 3) := dk_155 0 7 (dk_at dksX4_hasSecond_0 11 rfl rfl)
theorem dX4_hasSecond_14 : decode cX4_hasSecond 14 = .ok (.iconst 1, 1) := dk_4 (dk_at dksX4_hasSecond_0 14 rfl rfl)
theorem dX4_hasSecond_15 : decode cX4_hasSecond 15 = .ok (.goto 4, 3) := dk_167 0 4 (dk_at dksX4_hasSecond_0 15 rfl rfl)
theorem dX4_hasSecond_18 : decode cX4_hasSecond 18 = .ok (.iconst 0, 1) := dk_3 (dk_at dksX4_hasSecond_0 18 rfl rfl)
theorem dX4_hasSecond_19 : decode cX4_hasSecond 19 = .ok (.ireturn, 1) := dk_172 (dk_at dksX4_hasSecond_0 19 rfl rfl)
abbrev cX4_outOf : ByteArray := prog_13_method_43_code
def yX4_outOf : MethodName := ⟨RX4, "outOf", "([III)I"⟩
def dkwX4_outOf_1 : List UInt8 := [29, 184, 0, 246, 4, 96, 46, 28, 160, 0, 5, 29, 172, 132, 3, 1, 167, 255, 218, 2, 172]
abbrev dktX4_outOf_1 : List UInt8 := dkwX4_outOf_1 ++ []
def dkwX4_outOf_0 : List UInt8 := [3, 62, 29, 42, 17, 3, 46, 46, 162, 0, 35, 42, 29, 184, 0, 246, 3, 96, 46, 27, 160, 0, 17, 42]
abbrev dktX4_outOf_0 : List UInt8 := dkwX4_outOf_0 ++ dktX4_outOf_1
theorem dksX4_outOf_0 : cX4_outOf.data.toList.drop 0 = dktX4_outOf_0 := by decide +kernel
theorem dksX4_outOf_1 : cX4_outOf.data.toList.drop 24 = dktX4_outOf_1 := dk_seg dksX4_outOf_0 24 rfl rfl
theorem dX4_outOf_0 : decode cX4_outOf 0 = .ok (.iconst 0, 1) := dk_3 (dk_at dksX4_outOf_0 0 rfl rfl)
theorem dX4_outOf_1 : decode cX4_outOf 1 = .ok (.istore_n 3, 1) := dk_62 (dk_at dksX4_outOf_0 1 rfl rfl)
theorem dX4_outOf_2 : decode cX4_outOf 2 = .ok (.iload_n 3, 1) := dk_29 (dk_at dksX4_outOf_0 2 rfl rfl)
theorem dX4_outOf_3 : decode cX4_outOf 3 = .ok (.aload_n 0, 1) := dk_42 (dk_at dksX4_outOf_0 3 rfl rfl)
theorem dX4_outOf_4 : decode cX4_outOf 4 = .ok (.sipush 814, 3) := dk_17 3 46 (dk_at dksX4_outOf_0 4 rfl rfl)
theorem dX4_outOf_7 : decode cX4_outOf 7 = .ok (.iaload, 1) := dk_46 (dk_at dksX4_outOf_0 7 rfl rfl)
theorem dX4_outOf_8 : decode cX4_outOf 8 = .ok (.if_icmp .ge 35, 3) := dk_162 0 35 (dk_at dksX4_outOf_0 8 rfl rfl)
theorem dX4_outOf_11 : decode cX4_outOf 11 = .ok (.aload_n 0, 1) := dk_42 (dk_at dksX4_outOf_0 11 rfl rfl)
theorem dX4_outOf_12 : decode cX4_outOf 12 = .ok (.iload_n 3, 1) := dk_29 (dk_at dksX4_outOf_0 12 rfl rfl)
theorem dX4_outOf_13 : decode cX4_outOf 13 = .ok (.invokestatic 246, 3) := dk_184 0 246 (dk_at dksX4_outOf_0 13 rfl rfl)
theorem dX4_outOf_16 : decode cX4_outOf 16 = .ok (.iconst 0, 1) := dk_3 (dk_at dksX4_outOf_0 16 rfl rfl)
theorem dX4_outOf_17 : decode cX4_outOf 17 = .ok (.iadd, 1) := dk_96 (dk_at dksX4_outOf_0 17 rfl rfl)
theorem dX4_outOf_18 : decode cX4_outOf 18 = .ok (.iaload, 1) := dk_46 (dk_at dksX4_outOf_0 18 rfl rfl)
theorem dX4_outOf_19 : decode cX4_outOf 19 = .ok (.iload_n 1, 1) := dk_27 (dk_at dksX4_outOf_0 19 rfl rfl)
theorem dX4_outOf_20 : decode cX4_outOf 20 = .ok (.if_icmp .ne 17, 3) := dk_160 0 17 (dk_at dksX4_outOf_0 20 rfl rfl)
theorem dX4_outOf_23 : decode cX4_outOf 23 = .ok (.aload_n 0, 1) := dk_42 (dk_at dksX4_outOf_0 23 rfl rfl)
theorem dX4_outOf_24 : decode cX4_outOf 24 = .ok (.iload_n 3, 1) := dk_29 (dk_at dksX4_outOf_1 0 rfl rfl)
theorem dX4_outOf_25 : decode cX4_outOf 25 = .ok (.invokestatic 246, 3) := dk_184 0 246 (dk_at dksX4_outOf_1 1 rfl rfl)
theorem dX4_outOf_28 : decode cX4_outOf 28 = .ok (.iconst 1, 1) := dk_4 (dk_at dksX4_outOf_1 4 rfl rfl)
theorem dX4_outOf_29 : decode cX4_outOf 29 = .ok (.iadd, 1) := dk_96 (dk_at dksX4_outOf_1 5 rfl rfl)
theorem dX4_outOf_30 : decode cX4_outOf 30 = .ok (.iaload, 1) := dk_46 (dk_at dksX4_outOf_1 6 rfl rfl)
theorem dX4_outOf_31 : decode cX4_outOf 31 = .ok (.iload_n 2, 1) := dk_28 (dk_at dksX4_outOf_1 7 rfl rfl)
theorem dX4_outOf_32 : decode cX4_outOf 32 = .ok (.if_icmp .ne 5, 3) := dk_160 0 5 (dk_at dksX4_outOf_1 8 rfl rfl)
theorem dX4_outOf_35 : decode cX4_outOf 35 = .ok (.iload_n 3, 1) := dk_29 (dk_at dksX4_outOf_1 11 rfl rfl)
theorem dX4_outOf_36 : decode cX4_outOf 36 = .ok (.ireturn, 1) := dk_172 (dk_at dksX4_outOf_1 12 rfl rfl)
theorem dX4_outOf_37 : decode cX4_outOf 37 = .ok (.iinc 3 1, 3) := dk_132 3 1 (dk_at dksX4_outOf_1 13 rfl rfl)
theorem dX4_outOf_40 : decode cX4_outOf 40 = .ok (.goto (-38), 3) := dk_167 255 218 (dk_at dksX4_outOf_1 16 rfl rfl)
theorem dX4_outOf_43 : decode cX4_outOf 43 = .ok (.iconst (-1), 1) := dk_2 (dk_at dksX4_outOf_1 19 rfl rfl)
theorem dX4_outOf_44 : decode cX4_outOf 44 = .ok (.ireturn, 1) := dk_172 (dk_at dksX4_outOf_1 20 rfl rfl)
abbrev cX4_outAt : ByteArray := prog_13_method_39_code
def yX4_outAt : MethodName := ⟨RX4, "outAt", "(I)I"⟩
def dkwX4_outAt_0 : List UInt8 := [17, 1, 238, 7, 26, 104, 96, 172]
abbrev dktX4_outAt_0 : List UInt8 := dkwX4_outAt_0 ++ []
theorem dksX4_outAt_0 : cX4_outAt.data.toList.drop 0 = dktX4_outAt_0 := by decide +kernel
theorem dX4_outAt_0 : decode cX4_outAt 0 = .ok (.sipush 494, 3) := dk_17 1 238 (dk_at dksX4_outAt_0 0 rfl rfl)
theorem dX4_outAt_3 : decode cX4_outAt 3 = .ok (.iconst 4, 1) := dk_7 (dk_at dksX4_outAt_0 3 rfl rfl)
theorem dX4_outAt_4 : decode cX4_outAt 4 = .ok (.iload_n 0, 1) := dk_26 (dk_at dksX4_outAt_0 4 rfl rfl)
theorem dX4_outAt_5 : decode cX4_outAt 5 = .ok (.imul, 1) := dk_104 (dk_at dksX4_outAt_0 5 rfl rfl)
theorem dX4_outAt_6 : decode cX4_outAt 6 = .ok (.iadd, 1) := dk_96 (dk_at dksX4_outAt_0 6 rfl rfl)
theorem dX4_outAt_7 : decode cX4_outAt 7 = .ok (.ireturn, 1) := dk_172 (dk_at dksX4_outAt_0 7 rfl rfl)
abbrev cX4_isPosted : ByteArray := prog_13_method_44_code
def yX4_isPosted : MethodName := ⟨RX4, "isPosted", "([III)Z"⟩
def dkwX4_isPosted_2 : List UInt8 := [132, 4, 1, 167, 255, 218, 29, 172]
abbrev dktX4_isPosted_2 : List UInt8 := dkwX4_isPosted_2 ++ []
def dkwX4_isPosted_1 : List UInt8 := [154, 0, 17, 42, 27, 21, 4, 184, 0, 249, 3, 96, 46, 28, 160, 0, 7, 4, 167, 0, 4, 3, 62]
abbrev dktX4_isPosted_1 : List UInt8 := dkwX4_isPosted_1 ++ dktX4_isPosted_2
def dkwX4_isPosted_0 : List UInt8 := [3, 62, 42, 27, 16, 6, 184, 0, 220, 54, 4, 21, 4, 42, 27, 8, 184, 0, 220, 162, 0, 33, 29]
abbrev dktX4_isPosted_0 : List UInt8 := dkwX4_isPosted_0 ++ dktX4_isPosted_1
theorem dksX4_isPosted_0 : cX4_isPosted.data.toList.drop 0 = dktX4_isPosted_0 := by decide +kernel
theorem dksX4_isPosted_1 : cX4_isPosted.data.toList.drop 23 = dktX4_isPosted_1 := dk_seg dksX4_isPosted_0 23 rfl rfl
theorem dksX4_isPosted_2 : cX4_isPosted.data.toList.drop 46 = dktX4_isPosted_2 := dk_seg dksX4_isPosted_1 23 rfl rfl
theorem dX4_isPosted_0 : decode cX4_isPosted 0 = .ok (.iconst 0, 1) := dk_3 (dk_at dksX4_isPosted_0 0 rfl rfl)
theorem dX4_isPosted_1 : decode cX4_isPosted 1 = .ok (.istore_n 3, 1) := dk_62 (dk_at dksX4_isPosted_0 1 rfl rfl)
theorem dX4_isPosted_2 : decode cX4_isPosted 2 = .ok (.aload_n 0, 1) := dk_42 (dk_at dksX4_isPosted_0 2 rfl rfl)
theorem dX4_isPosted_3 : decode cX4_isPosted 3 = .ok (.iload_n 1, 1) := dk_27 (dk_at dksX4_isPosted_0 3 rfl rfl)
theorem dX4_isPosted_4 : decode cX4_isPosted 4 = .ok (.bipush 6, 2) := dk_16 6 (dk_at dksX4_isPosted_0 4 rfl rfl)
theorem dX4_isPosted_6 : decode cX4_isPosted 6 = .ok (.invokestatic 220, 3) := dk_184 0 220 (dk_at dksX4_isPosted_0 6 rfl rfl)
theorem dX4_isPosted_9 : decode cX4_isPosted 9 = .ok (.istore 4, 2) := dk_54 4 (dk_at dksX4_isPosted_0 9 rfl rfl)
theorem dX4_isPosted_11 : decode cX4_isPosted 11 = .ok (.iload 4, 2) := dk_21 4 (dk_at dksX4_isPosted_0 11 rfl rfl)
theorem dX4_isPosted_13 : decode cX4_isPosted 13 = .ok (.aload_n 0, 1) := dk_42 (dk_at dksX4_isPosted_0 13 rfl rfl)
theorem dX4_isPosted_14 : decode cX4_isPosted 14 = .ok (.iload_n 1, 1) := dk_27 (dk_at dksX4_isPosted_0 14 rfl rfl)
theorem dX4_isPosted_15 : decode cX4_isPosted 15 = .ok (.iconst 5, 1) := dk_8 (dk_at dksX4_isPosted_0 15 rfl rfl)
theorem dX4_isPosted_16 : decode cX4_isPosted 16 = .ok (.invokestatic 220, 3) := dk_184 0 220 (dk_at dksX4_isPosted_0 16 rfl rfl)
theorem dX4_isPosted_19 : decode cX4_isPosted 19 = .ok (.if_icmp .ge 33, 3) := dk_162 0 33 (dk_at dksX4_isPosted_0 19 rfl rfl)
theorem dX4_isPosted_22 : decode cX4_isPosted 22 = .ok (.iload_n 3, 1) := dk_29 (dk_at dksX4_isPosted_0 22 rfl rfl)
theorem dX4_isPosted_23 : decode cX4_isPosted 23 = .ok (.ifCond .ne 17, 3) := dk_154 0 17 (dk_at dksX4_isPosted_1 0 rfl rfl)
theorem dX4_isPosted_26 : decode cX4_isPosted 26 = .ok (.aload_n 0, 1) := dk_42 (dk_at dksX4_isPosted_1 3 rfl rfl)
theorem dX4_isPosted_27 : decode cX4_isPosted 27 = .ok (.iload_n 1, 1) := dk_27 (dk_at dksX4_isPosted_1 4 rfl rfl)
theorem dX4_isPosted_28 : decode cX4_isPosted 28 = .ok (.iload 4, 2) := dk_21 4 (dk_at dksX4_isPosted_1 5 rfl rfl)
theorem dX4_isPosted_30 : decode cX4_isPosted 30 = .ok (.invokestatic 249, 3) := dk_184 0 249 (dk_at dksX4_isPosted_1 7 rfl rfl)
theorem dX4_isPosted_33 : decode cX4_isPosted 33 = .ok (.iconst 0, 1) := dk_3 (dk_at dksX4_isPosted_1 10 rfl rfl)
theorem dX4_isPosted_34 : decode cX4_isPosted 34 = .ok (.iadd, 1) := dk_96 (dk_at dksX4_isPosted_1 11 rfl rfl)
theorem dX4_isPosted_35 : decode cX4_isPosted 35 = .ok (.iaload, 1) := dk_46 (dk_at dksX4_isPosted_1 12 rfl rfl)
theorem dX4_isPosted_36 : decode cX4_isPosted 36 = .ok (.iload_n 2, 1) := dk_28 (dk_at dksX4_isPosted_1 13 rfl rfl)
theorem dX4_isPosted_37 : decode cX4_isPosted 37 = .ok (.if_icmp .ne 7, 3) := dk_160 0 7 (dk_at dksX4_isPosted_1 14 rfl rfl)
theorem dX4_isPosted_40 : decode cX4_isPosted 40 = .ok (.iconst 1, 1) := dk_4 (dk_at dksX4_isPosted_1 17 rfl rfl)
theorem dX4_isPosted_41 : decode cX4_isPosted 41 = .ok (.goto 4, 3) := dk_167 0 4 (dk_at dksX4_isPosted_1 18 rfl rfl)
theorem dX4_isPosted_44 : decode cX4_isPosted 44 = .ok (.iconst 0, 1) := dk_3 (dk_at dksX4_isPosted_1 21 rfl rfl)
theorem dX4_isPosted_45 : decode cX4_isPosted 45 = .ok (.istore_n 3, 1) := dk_62 (dk_at dksX4_isPosted_1 22 rfl rfl)
theorem dX4_isPosted_46 : decode cX4_isPosted 46 = .ok (.iinc 4 1, 3) := dk_132 4 1 (dk_at dksX4_isPosted_2 0 rfl rfl)
theorem dX4_isPosted_49 : decode cX4_isPosted 49 = .ok (.goto (-38), 3) := dk_167 255 218 (dk_at dksX4_isPosted_2 3 rfl rfl)
theorem dX4_isPosted_52 : decode cX4_isPosted 52 = .ok (.iload_n 3, 1) := dk_29 (dk_at dksX4_isPosted_2 6 rfl rfl)
theorem dX4_isPosted_53 : decode cX4_isPosted 53 = .ok (.ireturn, 1) := dk_172 (dk_at dksX4_isPosted_2 7 rfl rfl)
abbrev cX4_placeAt : ByteArray := prog_13_method_29_code
def yX4_placeAt : MethodName := ⟨RX4, "placeAt", "(II)I"⟩
def dkwX4_placeAt_0 : List UInt8 := [16, 89, 26, 104, 16, 49, 96, 8, 27, 16, 8, 112, 104, 96, 172]
abbrev dktX4_placeAt_0 : List UInt8 := dkwX4_placeAt_0 ++ []
theorem dksX4_placeAt_0 : cX4_placeAt.data.toList.drop 0 = dktX4_placeAt_0 := by decide +kernel
theorem dX4_placeAt_0 : decode cX4_placeAt 0 = .ok (.bipush 89, 2) := dk_16 89 (dk_at dksX4_placeAt_0 0 rfl rfl)
theorem dX4_placeAt_2 : decode cX4_placeAt 2 = .ok (.iload_n 0, 1) := dk_26 (dk_at dksX4_placeAt_0 2 rfl rfl)
theorem dX4_placeAt_3 : decode cX4_placeAt 3 = .ok (.imul, 1) := dk_104 (dk_at dksX4_placeAt_0 3 rfl rfl)
theorem dX4_placeAt_4 : decode cX4_placeAt 4 = .ok (.bipush 49, 2) := dk_16 49 (dk_at dksX4_placeAt_0 4 rfl rfl)
theorem dX4_placeAt_6 : decode cX4_placeAt 6 = .ok (.iadd, 1) := dk_96 (dk_at dksX4_placeAt_0 6 rfl rfl)
theorem dX4_placeAt_7 : decode cX4_placeAt 7 = .ok (.iconst 5, 1) := dk_8 (dk_at dksX4_placeAt_0 7 rfl rfl)
theorem dX4_placeAt_8 : decode cX4_placeAt 8 = .ok (.iload_n 1, 1) := dk_27 (dk_at dksX4_placeAt_0 8 rfl rfl)
theorem dX4_placeAt_9 : decode cX4_placeAt 9 = .ok (.bipush 8, 2) := dk_16 8 (dk_at dksX4_placeAt_0 9 rfl rfl)
theorem dX4_placeAt_11 : decode cX4_placeAt 11 = .ok (.irem, 1) := dk_112 (dk_at dksX4_placeAt_0 11 rfl rfl)
theorem dX4_placeAt_12 : decode cX4_placeAt 12 = .ok (.imul, 1) := dk_104 (dk_at dksX4_placeAt_0 12 rfl rfl)
theorem dX4_placeAt_13 : decode cX4_placeAt 13 = .ok (.iadd, 1) := dk_96 (dk_at dksX4_placeAt_0 13 rfl rfl)
theorem dX4_placeAt_14 : decode cX4_placeAt 14 = .ok (.ireturn, 1) := dk_172 (dk_at dksX4_placeAt_0 14 rfl rfl)
abbrev cX4_sets : ByteArray := prog_13_method_27_code
def yX4_sets : MethodName := ⟨RX4, "sets", "([IIII)V"⟩
def dkwX4_sets_0 : List UInt8 := [42, 16, 89, 27, 104, 28, 96, 29, 79, 177]
abbrev dktX4_sets_0 : List UInt8 := dkwX4_sets_0 ++ []
theorem dksX4_sets_0 : cX4_sets.data.toList.drop 0 = dktX4_sets_0 := by decide +kernel
theorem dX4_sets_0 : decode cX4_sets 0 = .ok (.aload_n 0, 1) := dk_42 (dk_at dksX4_sets_0 0 rfl rfl)
theorem dX4_sets_1 : decode cX4_sets 1 = .ok (.bipush 89, 2) := dk_16 89 (dk_at dksX4_sets_0 1 rfl rfl)
theorem dX4_sets_3 : decode cX4_sets 3 = .ok (.iload_n 1, 1) := dk_27 (dk_at dksX4_sets_0 3 rfl rfl)
theorem dX4_sets_4 : decode cX4_sets 4 = .ok (.imul, 1) := dk_104 (dk_at dksX4_sets_0 4 rfl rfl)
theorem dX4_sets_5 : decode cX4_sets 5 = .ok (.iload_n 2, 1) := dk_28 (dk_at dksX4_sets_0 5 rfl rfl)
theorem dX4_sets_6 : decode cX4_sets 6 = .ok (.iadd, 1) := dk_96 (dk_at dksX4_sets_0 6 rfl rfl)
theorem dX4_sets_7 : decode cX4_sets 7 = .ok (.iload_n 3, 1) := dk_29 (dk_at dksX4_sets_0 7 rfl rfl)
theorem dX4_sets_8 : decode cX4_sets 8 = .ok (.iastore, 1) := dk_79 (dk_at dksX4_sets_0 8 rfl rfl)
theorem dX4_sets_9 : decode cX4_sets 9 = .ok (.return_, 1) := dk_177 (dk_at dksX4_sets_0 9 rfl rfl)
abbrev cX4_counted : ByteArray := prog_13_method_36_code
def yX4_counted : MethodName := ⟨RX4, "counted", "(I)I"⟩
def dkwX4_counted_0 : List UInt8 := [27, 156, 0, 7, 27, 167, 0, 8, 42, 27, 182, 0, 233, 172]
abbrev dktX4_counted_0 : List UInt8 := dkwX4_counted_0 ++ []
theorem dksX4_counted_0 : cX4_counted.data.toList.drop 0 = dktX4_counted_0 := by decide +kernel
theorem dX4_counted_0 : decode cX4_counted 0 = .ok (.iload_n 1, 1) := dk_27 (dk_at dksX4_counted_0 0 rfl rfl)
theorem dX4_counted_1 : decode cX4_counted 1 = .ok (.ifCond .ge 7, 3) := dk_156 0 7 (dk_at dksX4_counted_0 1 rfl rfl)
theorem dX4_counted_4 : decode cX4_counted 4 = .ok (.iload_n 1, 1) := dk_27 (dk_at dksX4_counted_0 4 rfl rfl)
theorem dX4_counted_5 : decode cX4_counted 5 = .ok (.goto 8, 3) := dk_167 0 8 (dk_at dksX4_counted_0 5 rfl rfl)
theorem dX4_counted_8 : decode cX4_counted 8 = .ok (.aload_n 0, 1) := dk_42 (dk_at dksX4_counted_0 8 rfl rfl)
theorem dX4_counted_9 : decode cX4_counted 9 = .ok (.iload_n 1, 1) := dk_27 (dk_at dksX4_counted_0 9 rfl rfl)
theorem dX4_counted_10 : decode cX4_counted 10 = .ok (.invokevirtual 233, 3) := dk_182 0 233 (dk_at dksX4_counted_0 10 rfl rfl)
theorem dX4_counted_13 : decode cX4_counted 13 = .ok (.ireturn, 1) := dk_172 (dk_at dksX4_counted_0 13 rfl rfl)
abbrev cX4_adds : ByteArray := prog_13_method_35_code
def yX4_adds : MethodName := ⟨RX4, "adds", "(I)I"⟩
def dkwX4_adds_2 : List UInt8 := [132, 2, 1, 167, 255, 230, 42, 89, 180, 0, 206, 4, 100, 181, 0, 206, 27, 172]
abbrev dktX4_adds_2 : List UInt8 := dkwX4_adds_2 ++ []
def dkwX4_adds_1 : List UInt8 := [17, 26, 96, 162, 0, 25, 42, 180, 0, 152, 28, 42, 180, 0, 152, 28, 17, 3, 76, 96, 46, 79]
abbrev dktX4_adds_1 : List UInt8 := dkwX4_adds_1 ++ dktX4_adds_2
def dkwX4_adds_0 : List UInt8 := [42, 89, 180, 0, 206, 4, 96, 181, 0, 206, 42, 180, 0, 206, 16, 8, 164, 0, 44, 3, 61, 28]
abbrev dktX4_adds_0 : List UInt8 := dkwX4_adds_0 ++ dktX4_adds_1
theorem dksX4_adds_0 : cX4_adds.data.toList.drop 0 = dktX4_adds_0 := by decide +kernel
theorem dksX4_adds_1 : cX4_adds.data.toList.drop 22 = dktX4_adds_1 := dk_seg dksX4_adds_0 22 rfl rfl
theorem dksX4_adds_2 : cX4_adds.data.toList.drop 44 = dktX4_adds_2 := dk_seg dksX4_adds_1 22 rfl rfl
theorem dX4_adds_0 : decode cX4_adds 0 = .ok (.aload_n 0, 1) := dk_42 (dk_at dksX4_adds_0 0 rfl rfl)
theorem dX4_adds_1 : decode cX4_adds 1 = .ok (.dup, 1) := dk_89 (dk_at dksX4_adds_0 1 rfl rfl)
theorem dX4_adds_2 : decode cX4_adds 2 = .ok (.getfield 206, 3) := dk_180 0 206 (dk_at dksX4_adds_0 2 rfl rfl)
theorem dX4_adds_5 : decode cX4_adds 5 = .ok (.iconst 1, 1) := dk_4 (dk_at dksX4_adds_0 5 rfl rfl)
theorem dX4_adds_6 : decode cX4_adds 6 = .ok (.iadd, 1) := dk_96 (dk_at dksX4_adds_0 6 rfl rfl)
theorem dX4_adds_7 : decode cX4_adds 7 = .ok (.putfield 206, 3) := dk_181 0 206 (dk_at dksX4_adds_0 7 rfl rfl)
theorem dX4_adds_10 : decode cX4_adds 10 = .ok (.aload_n 0, 1) := dk_42 (dk_at dksX4_adds_0 10 rfl rfl)
theorem dX4_adds_11 : decode cX4_adds 11 = .ok (.getfield 206, 3) := dk_180 0 206 (dk_at dksX4_adds_0 11 rfl rfl)
theorem dX4_adds_14 : decode cX4_adds 14 = .ok (.bipush 8, 2) := dk_16 8 (dk_at dksX4_adds_0 14 rfl rfl)
theorem dX4_adds_16 : decode cX4_adds 16 = .ok (.if_icmp .le 44, 3) := dk_164 0 44 (dk_at dksX4_adds_0 16 rfl rfl)
theorem dX4_adds_19 : decode cX4_adds 19 = .ok (.iconst 0, 1) := dk_3 (dk_at dksX4_adds_0 19 rfl rfl)
theorem dX4_adds_20 : decode cX4_adds 20 = .ok (.istore_n 2, 1) := dk_61 (dk_at dksX4_adds_0 20 rfl rfl)
theorem dX4_adds_21 : decode cX4_adds 21 = .ok (.iload_n 2, 1) := dk_28 (dk_at dksX4_adds_0 21 rfl rfl)
theorem dX4_adds_22 : decode cX4_adds 22 = .ok (.sipush 6752, 3) := dk_17 26 96 (dk_at dksX4_adds_1 0 rfl rfl)
theorem dX4_adds_25 : decode cX4_adds 25 = .ok (.if_icmp .ge 25, 3) := dk_162 0 25 (dk_at dksX4_adds_1 3 rfl rfl)
theorem dX4_adds_28 : decode cX4_adds 28 = .ok (.aload_n 0, 1) := dk_42 (dk_at dksX4_adds_1 6 rfl rfl)
theorem dX4_adds_29 : decode cX4_adds 29 = .ok (.getfield 152, 3) := dk_180 0 152 (dk_at dksX4_adds_1 7 rfl rfl)
theorem dX4_adds_32 : decode cX4_adds 32 = .ok (.iload_n 2, 1) := dk_28 (dk_at dksX4_adds_1 10 rfl rfl)
theorem dX4_adds_33 : decode cX4_adds 33 = .ok (.aload_n 0, 1) := dk_42 (dk_at dksX4_adds_1 11 rfl rfl)
theorem dX4_adds_34 : decode cX4_adds 34 = .ok (.getfield 152, 3) := dk_180 0 152 (dk_at dksX4_adds_1 12 rfl rfl)
theorem dX4_adds_37 : decode cX4_adds 37 = .ok (.iload_n 2, 1) := dk_28 (dk_at dksX4_adds_1 15 rfl rfl)
theorem dX4_adds_38 : decode cX4_adds 38 = .ok (.sipush 844, 3) := dk_17 3 76 (dk_at dksX4_adds_1 16 rfl rfl)
theorem dX4_adds_41 : decode cX4_adds 41 = .ok (.iadd, 1) := dk_96 (dk_at dksX4_adds_1 19 rfl rfl)
theorem dX4_adds_42 : decode cX4_adds 42 = .ok (.iaload, 1) := dk_46 (dk_at dksX4_adds_1 20 rfl rfl)
theorem dX4_adds_43 : decode cX4_adds 43 = .ok (.iastore, 1) := dk_79 (dk_at dksX4_adds_1 21 rfl rfl)
theorem dX4_adds_44 : decode cX4_adds 44 = .ok (.iinc 2 1, 3) := dk_132 2 1 (dk_at dksX4_adds_2 0 rfl rfl)
theorem dX4_adds_47 : decode cX4_adds 47 = .ok (.goto (-26), 3) := dk_167 255 230 (dk_at dksX4_adds_2 3 rfl rfl)
theorem dX4_adds_50 : decode cX4_adds 50 = .ok (.aload_n 0, 1) := dk_42 (dk_at dksX4_adds_2 6 rfl rfl)
theorem dX4_adds_51 : decode cX4_adds 51 = .ok (.dup, 1) := dk_89 (dk_at dksX4_adds_2 7 rfl rfl)
theorem dX4_adds_52 : decode cX4_adds 52 = .ok (.getfield 206, 3) := dk_180 0 206 (dk_at dksX4_adds_2 8 rfl rfl)
theorem dX4_adds_55 : decode cX4_adds 55 = .ok (.iconst 1, 1) := dk_4 (dk_at dksX4_adds_2 11 rfl rfl)
theorem dX4_adds_56 : decode cX4_adds 56 = .ok (.isub, 1) := dk_100 (dk_at dksX4_adds_2 12 rfl rfl)
theorem dX4_adds_57 : decode cX4_adds 57 = .ok (.putfield 206, 3) := dk_181 0 206 (dk_at dksX4_adds_2 13 rfl rfl)
theorem dX4_adds_60 : decode cX4_adds 60 = .ok (.iload_n 1, 1) := dk_27 (dk_at dksX4_adds_2 16 rfl rfl)
theorem dX4_adds_61 : decode cX4_adds 61 = .ok (.ireturn, 1) := dk_172 (dk_at dksX4_adds_2 17 rfl rfl)
abbrev cX4_ring : ByteArray := prog_13_method_73_code
def yX4_ring : MethodName := ⟨RX4, "ring", "(I)I"⟩
def dkwX4_ring_0 : List UInt8 := [42, 3, 181, 0, 3, 42, 182, 1, 99, 42, 42, 42, 180, 0, 146, 27, 182, 1, 109, 182, 1, 106, 172]
abbrev dktX4_ring_0 : List UInt8 := dkwX4_ring_0 ++ []
theorem dksX4_ring_0 : cX4_ring.data.toList.drop 0 = dktX4_ring_0 := by decide +kernel
theorem dX4_ring_0 : decode cX4_ring 0 = .ok (.aload_n 0, 1) := dk_42 (dk_at dksX4_ring_0 0 rfl rfl)
theorem dX4_ring_1 : decode cX4_ring 1 = .ok (.iconst 0, 1) := dk_3 (dk_at dksX4_ring_0 1 rfl rfl)
theorem dX4_ring_2 : decode cX4_ring 2 = .ok (.putfield 3, 3) := dk_181 0 3 (dk_at dksX4_ring_0 2 rfl rfl)
theorem dX4_ring_5 : decode cX4_ring 5 = .ok (.aload_n 0, 1) := dk_42 (dk_at dksX4_ring_0 5 rfl rfl)
theorem dX4_ring_6 : decode cX4_ring 6 = .ok (.invokevirtual 355, 3) := dk_182 1 99 (dk_at dksX4_ring_0 6 rfl rfl)
theorem dX4_ring_9 : decode cX4_ring 9 = .ok (.aload_n 0, 1) := dk_42 (dk_at dksX4_ring_0 9 rfl rfl)
theorem dX4_ring_10 : decode cX4_ring 10 = .ok (.aload_n 0, 1) := dk_42 (dk_at dksX4_ring_0 10 rfl rfl)
theorem dX4_ring_11 : decode cX4_ring 11 = .ok (.aload_n 0, 1) := dk_42 (dk_at dksX4_ring_0 11 rfl rfl)
theorem dX4_ring_12 : decode cX4_ring 12 = .ok (.getfield 146, 3) := dk_180 0 146 (dk_at dksX4_ring_0 12 rfl rfl)
theorem dX4_ring_15 : decode cX4_ring 15 = .ok (.iload_n 1, 1) := dk_27 (dk_at dksX4_ring_0 15 rfl rfl)
theorem dX4_ring_16 : decode cX4_ring 16 = .ok (.invokevirtual 365, 3) := dk_182 1 109 (dk_at dksX4_ring_0 16 rfl rfl)
theorem dX4_ring_19 : decode cX4_ring 19 = .ok (.invokevirtual 362, 3) := dk_182 1 106 (dk_at dksX4_ring_0 19 rfl rfl)
theorem dX4_ring_22 : decode cX4_ring 22 = .ok (.ireturn, 1) := dk_172 (dk_at dksX4_ring_0 22 rfl rfl)
abbrev cX4_ringsOne : ByteArray := prog_13_method_51_code
def yX4_ringsOne : MethodName := ⟨RX4, "ringsOne", "([II)I"⟩
def dkwX4_ringsOne_5 : List UInt8 := [167, 0, 4, 3, 184, 0, 40, 96, 92, 46, 4, 96, 79, 21, 5, 184, 0, 40, 172]
abbrev dktX4_ringsOne_5 : List UInt8 := dkwX4_ringsOne_5 ++ []
def dkwX4_ringsOne_4 : List UInt8 := [28, 16, 8, 42, 180, 0, 143, 28, 46, 184, 1, 22, 43, 17, 3, 70, 21, 5, 154, 0, 7, 4]
abbrev dktX4_ringsOne_4 : List UInt8 := dkwX4_ringsOne_4 ++ dktX4_ringsOne_5
def dkwX4_ringsOne_3 : List UInt8 := [153, 0, 7, 4, 167, 0, 4, 3, 54, 5, 21, 5, 153, 0, 24, 43, 28, 5, 21, 4, 184, 1, 22, 43]
abbrev dktX4_ringsOne_3 : List UInt8 := dkwX4_ringsOne_3 ++ dktX4_ringsOne_4
def dkwX4_ringsOne_2 : List UInt8 := [46, 153, 0, 24, 43, 28, 16, 7, 184, 0, 220, 133, 29, 133, 21, 4, 4, 100, 133, 184, 0, 21]
abbrev dktX4_ringsOne_2 : List UInt8 := dkwX4_ringsOne_2 ++ dktX4_ringsOne_3
def dkwX4_ringsOne_1 : List UInt8 := [54, 4, 29, 21, 4, 160, 0, 6, 16, 254, 172, 43, 28, 4, 21, 4, 184, 1, 22, 42, 180, 0, 143, 28]
abbrev dktX4_ringsOne_1 : List UInt8 := dkwX4_ringsOne_1 ++ dktX4_ringsOne_2
def dkwX4_ringsOne_0 : List UInt8 := [42, 28, 182, 0, 212, 154, 0, 5, 2, 172, 43, 28, 4, 184, 0, 220, 62, 43, 28, 3, 184, 0, 220]
abbrev dktX4_ringsOne_0 : List UInt8 := dkwX4_ringsOne_0 ++ dktX4_ringsOne_1
theorem dksX4_ringsOne_0 : cX4_ringsOne.data.toList.drop 0 = dktX4_ringsOne_0 := by decide +kernel
theorem dksX4_ringsOne_1 : cX4_ringsOne.data.toList.drop 23 = dktX4_ringsOne_1 := dk_seg dksX4_ringsOne_0 23 rfl rfl
theorem dksX4_ringsOne_2 : cX4_ringsOne.data.toList.drop 47 = dktX4_ringsOne_2 := dk_seg dksX4_ringsOne_1 24 rfl rfl
theorem dksX4_ringsOne_3 : cX4_ringsOne.data.toList.drop 69 = dktX4_ringsOne_3 := dk_seg dksX4_ringsOne_2 22 rfl rfl
theorem dksX4_ringsOne_4 : cX4_ringsOne.data.toList.drop 93 = dktX4_ringsOne_4 := dk_seg dksX4_ringsOne_3 24 rfl rfl
theorem dksX4_ringsOne_5 : cX4_ringsOne.data.toList.drop 115 = dktX4_ringsOne_5 := dk_seg dksX4_ringsOne_4 22 rfl rfl
theorem dX4_ringsOne_0 : decode cX4_ringsOne 0 = .ok (.aload_n 0, 1) := dk_42 (dk_at dksX4_ringsOne_0 0 rfl rfl)
theorem dX4_ringsOne_1 : decode cX4_ringsOne 1 = .ok (.iload_n 2, 1) := dk_28 (dk_at dksX4_ringsOne_0 1 rfl rfl)
theorem dX4_ringsOne_2 : decode cX4_ringsOne 2 = .ok (.invokevirtual 212, 3) := dk_182 0 212 (dk_at dksX4_ringsOne_0 2 rfl rfl)
theorem dX4_ringsOne_5 : decode cX4_ringsOne 5 = .ok (.ifCond .ne 5, 3) := dk_154 0 5 (dk_at dksX4_ringsOne_0 5 rfl rfl)
theorem dX4_ringsOne_8 : decode cX4_ringsOne 8 = .ok (.iconst (-1), 1) := dk_2 (dk_at dksX4_ringsOne_0 8 rfl rfl)
theorem dX4_ringsOne_9 : decode cX4_ringsOne 9 = .ok (.ireturn, 1) := dk_172 (dk_at dksX4_ringsOne_0 9 rfl rfl)
theorem dX4_ringsOne_10 : decode cX4_ringsOne 10 = .ok (.aload_n 1, 1) := dk_43 (dk_at dksX4_ringsOne_0 10 rfl rfl)
theorem dX4_ringsOne_11 : decode cX4_ringsOne 11 = .ok (.iload_n 2, 1) := dk_28 (dk_at dksX4_ringsOne_0 11 rfl rfl)
theorem dX4_ringsOne_12 : decode cX4_ringsOne 12 = .ok (.iconst 1, 1) := dk_4 (dk_at dksX4_ringsOne_0 12 rfl rfl)
theorem dX4_ringsOne_13 : decode cX4_ringsOne 13 = .ok (.invokestatic 220, 3) := dk_184 0 220 (dk_at dksX4_ringsOne_0 13 rfl rfl)
theorem dX4_ringsOne_16 : decode cX4_ringsOne 16 = .ok (.istore_n 3, 1) := dk_62 (dk_at dksX4_ringsOne_0 16 rfl rfl)
theorem dX4_ringsOne_17 : decode cX4_ringsOne 17 = .ok (.aload_n 1, 1) := dk_43 (dk_at dksX4_ringsOne_0 17 rfl rfl)
theorem dX4_ringsOne_18 : decode cX4_ringsOne 18 = .ok (.iload_n 2, 1) := dk_28 (dk_at dksX4_ringsOne_0 18 rfl rfl)
theorem dX4_ringsOne_19 : decode cX4_ringsOne 19 = .ok (.iconst 0, 1) := dk_3 (dk_at dksX4_ringsOne_0 19 rfl rfl)
theorem dX4_ringsOne_20 : decode cX4_ringsOne 20 = .ok (.invokestatic 220, 3) := dk_184 0 220 (dk_at dksX4_ringsOne_0 20 rfl rfl)
theorem dX4_ringsOne_23 : decode cX4_ringsOne 23 = .ok (.istore 4, 2) := dk_54 4 (dk_at dksX4_ringsOne_1 0 rfl rfl)
theorem dX4_ringsOne_25 : decode cX4_ringsOne 25 = .ok (.iload_n 3, 1) := dk_29 (dk_at dksX4_ringsOne_1 2 rfl rfl)
theorem dX4_ringsOne_26 : decode cX4_ringsOne 26 = .ok (.iload 4, 2) := dk_21 4 (dk_at dksX4_ringsOne_1 3 rfl rfl)
theorem dX4_ringsOne_28 : decode cX4_ringsOne 28 = .ok (.if_icmp .ne 6, 3) := dk_160 0 6 (dk_at dksX4_ringsOne_1 5 rfl rfl)
theorem dX4_ringsOne_31 : decode cX4_ringsOne 31 = .ok (.bipush (-2), 2) := dk_16 254 (dk_at dksX4_ringsOne_1 8 rfl rfl)
theorem dX4_ringsOne_33 : decode cX4_ringsOne 33 = .ok (.ireturn, 1) := dk_172 (dk_at dksX4_ringsOne_1 10 rfl rfl)
theorem dX4_ringsOne_34 : decode cX4_ringsOne 34 = .ok (.aload_n 1, 1) := dk_43 (dk_at dksX4_ringsOne_1 11 rfl rfl)
theorem dX4_ringsOne_35 : decode cX4_ringsOne 35 = .ok (.iload_n 2, 1) := dk_28 (dk_at dksX4_ringsOne_1 12 rfl rfl)
theorem dX4_ringsOne_36 : decode cX4_ringsOne 36 = .ok (.iconst 1, 1) := dk_4 (dk_at dksX4_ringsOne_1 13 rfl rfl)
theorem dX4_ringsOne_37 : decode cX4_ringsOne 37 = .ok (.iload 4, 2) := dk_21 4 (dk_at dksX4_ringsOne_1 14 rfl rfl)
theorem dX4_ringsOne_39 : decode cX4_ringsOne 39 = .ok (.invokestatic 278, 3) := dk_184 1 22 (dk_at dksX4_ringsOne_1 16 rfl rfl)
theorem dX4_ringsOne_42 : decode cX4_ringsOne 42 = .ok (.aload_n 0, 1) := dk_42 (dk_at dksX4_ringsOne_1 19 rfl rfl)
theorem dX4_ringsOne_43 : decode cX4_ringsOne 43 = .ok (.getfield 143, 3) := dk_180 0 143 (dk_at dksX4_ringsOne_1 20 rfl rfl)
theorem dX4_ringsOne_46 : decode cX4_ringsOne 46 = .ok (.iload_n 2, 1) := dk_28 (dk_at dksX4_ringsOne_1 23 rfl rfl)
theorem dX4_ringsOne_47 : decode cX4_ringsOne 47 = .ok (.iaload, 1) := dk_46 (dk_at dksX4_ringsOne_2 0 rfl rfl)
theorem dX4_ringsOne_48 : decode cX4_ringsOne 48 = .ok (.ifCond .eq 24, 3) := dk_153 0 24 (dk_at dksX4_ringsOne_2 1 rfl rfl)
theorem dX4_ringsOne_51 : decode cX4_ringsOne 51 = .ok (.aload_n 1, 1) := dk_43 (dk_at dksX4_ringsOne_2 4 rfl rfl)
theorem dX4_ringsOne_52 : decode cX4_ringsOne 52 = .ok (.iload_n 2, 1) := dk_28 (dk_at dksX4_ringsOne_2 5 rfl rfl)
theorem dX4_ringsOne_53 : decode cX4_ringsOne 53 = .ok (.bipush 7, 2) := dk_16 7 (dk_at dksX4_ringsOne_2 6 rfl rfl)
theorem dX4_ringsOne_55 : decode cX4_ringsOne 55 = .ok (.invokestatic 220, 3) := dk_184 0 220 (dk_at dksX4_ringsOne_2 8 rfl rfl)
theorem dX4_ringsOne_58 : decode cX4_ringsOne 58 = .ok (.i2l, 1) := dk_133 (dk_at dksX4_ringsOne_2 11 rfl rfl)
theorem dX4_ringsOne_59 : decode cX4_ringsOne 59 = .ok (.iload_n 3, 1) := dk_29 (dk_at dksX4_ringsOne_2 12 rfl rfl)
theorem dX4_ringsOne_60 : decode cX4_ringsOne 60 = .ok (.i2l, 1) := dk_133 (dk_at dksX4_ringsOne_2 13 rfl rfl)
theorem dX4_ringsOne_61 : decode cX4_ringsOne 61 = .ok (.iload 4, 2) := dk_21 4 (dk_at dksX4_ringsOne_2 14 rfl rfl)
theorem dX4_ringsOne_63 : decode cX4_ringsOne 63 = .ok (.iconst 1, 1) := dk_4 (dk_at dksX4_ringsOne_2 16 rfl rfl)
theorem dX4_ringsOne_64 : decode cX4_ringsOne 64 = .ok (.isub, 1) := dk_100 (dk_at dksX4_ringsOne_2 17 rfl rfl)
theorem dX4_ringsOne_65 : decode cX4_ringsOne 65 = .ok (.i2l, 1) := dk_133 (dk_at dksX4_ringsOne_2 18 rfl rfl)
theorem dX4_ringsOne_66 : decode cX4_ringsOne 66 = .ok (.invokestatic 21, 3) := dk_184 0 21 (dk_at dksX4_ringsOne_2 19 rfl rfl)
theorem dX4_ringsOne_69 : decode cX4_ringsOne 69 = .ok (.ifCond .eq 7, 3) := dk_153 0 7 (dk_at dksX4_ringsOne_3 0 rfl rfl)
theorem dX4_ringsOne_72 : decode cX4_ringsOne 72 = .ok (.iconst 1, 1) := dk_4 (dk_at dksX4_ringsOne_3 3 rfl rfl)
theorem dX4_ringsOne_73 : decode cX4_ringsOne 73 = .ok (.goto 4, 3) := dk_167 0 4 (dk_at dksX4_ringsOne_3 4 rfl rfl)
theorem dX4_ringsOne_76 : decode cX4_ringsOne 76 = .ok (.iconst 0, 1) := dk_3 (dk_at dksX4_ringsOne_3 7 rfl rfl)
theorem dX4_ringsOne_77 : decode cX4_ringsOne 77 = .ok (.istore 5, 2) := dk_54 5 (dk_at dksX4_ringsOne_3 8 rfl rfl)
theorem dX4_ringsOne_79 : decode cX4_ringsOne 79 = .ok (.iload 5, 2) := dk_21 5 (dk_at dksX4_ringsOne_3 10 rfl rfl)
theorem dX4_ringsOne_81 : decode cX4_ringsOne 81 = .ok (.ifCond .eq 24, 3) := dk_153 0 24 (dk_at dksX4_ringsOne_3 12 rfl rfl)
theorem dX4_ringsOne_84 : decode cX4_ringsOne 84 = .ok (.aload_n 1, 1) := dk_43 (dk_at dksX4_ringsOne_3 15 rfl rfl)
theorem dX4_ringsOne_85 : decode cX4_ringsOne 85 = .ok (.iload_n 2, 1) := dk_28 (dk_at dksX4_ringsOne_3 16 rfl rfl)
theorem dX4_ringsOne_86 : decode cX4_ringsOne 86 = .ok (.iconst 2, 1) := dk_5 (dk_at dksX4_ringsOne_3 17 rfl rfl)
theorem dX4_ringsOne_87 : decode cX4_ringsOne 87 = .ok (.iload 4, 2) := dk_21 4 (dk_at dksX4_ringsOne_3 18 rfl rfl)
theorem dX4_ringsOne_89 : decode cX4_ringsOne 89 = .ok (.invokestatic 278, 3) := dk_184 1 22 (dk_at dksX4_ringsOne_3 20 rfl rfl)
theorem dX4_ringsOne_92 : decode cX4_ringsOne 92 = .ok (.aload_n 1, 1) := dk_43 (dk_at dksX4_ringsOne_3 23 rfl rfl)
theorem dX4_ringsOne_93 : decode cX4_ringsOne 93 = .ok (.iload_n 2, 1) := dk_28 (dk_at dksX4_ringsOne_4 0 rfl rfl)
theorem dX4_ringsOne_94 : decode cX4_ringsOne 94 = .ok (.bipush 8, 2) := dk_16 8 (dk_at dksX4_ringsOne_4 1 rfl rfl)
theorem dX4_ringsOne_96 : decode cX4_ringsOne 96 = .ok (.aload_n 0, 1) := dk_42 (dk_at dksX4_ringsOne_4 3 rfl rfl)
theorem dX4_ringsOne_97 : decode cX4_ringsOne 97 = .ok (.getfield 143, 3) := dk_180 0 143 (dk_at dksX4_ringsOne_4 4 rfl rfl)
theorem dX4_ringsOne_100 : decode cX4_ringsOne 100 = .ok (.iload_n 2, 1) := dk_28 (dk_at dksX4_ringsOne_4 7 rfl rfl)
theorem dX4_ringsOne_101 : decode cX4_ringsOne 101 = .ok (.iaload, 1) := dk_46 (dk_at dksX4_ringsOne_4 8 rfl rfl)
theorem dX4_ringsOne_102 : decode cX4_ringsOne 102 = .ok (.invokestatic 278, 3) := dk_184 1 22 (dk_at dksX4_ringsOne_4 9 rfl rfl)
theorem dX4_ringsOne_105 : decode cX4_ringsOne 105 = .ok (.aload_n 1, 1) := dk_43 (dk_at dksX4_ringsOne_4 12 rfl rfl)
theorem dX4_ringsOne_106 : decode cX4_ringsOne 106 = .ok (.sipush 838, 3) := dk_17 3 70 (dk_at dksX4_ringsOne_4 13 rfl rfl)
theorem dX4_ringsOne_109 : decode cX4_ringsOne 109 = .ok (.iload 5, 2) := dk_21 5 (dk_at dksX4_ringsOne_4 16 rfl rfl)
theorem dX4_ringsOne_111 : decode cX4_ringsOne 111 = .ok (.ifCond .ne 7, 3) := dk_154 0 7 (dk_at dksX4_ringsOne_4 18 rfl rfl)
theorem dX4_ringsOne_114 : decode cX4_ringsOne 114 = .ok (.iconst 1, 1) := dk_4 (dk_at dksX4_ringsOne_4 21 rfl rfl)
theorem dX4_ringsOne_115 : decode cX4_ringsOne 115 = .ok (.goto 4, 3) := dk_167 0 4 (dk_at dksX4_ringsOne_5 0 rfl rfl)
theorem dX4_ringsOne_118 : decode cX4_ringsOne 118 = .ok (.iconst 0, 1) := dk_3 (dk_at dksX4_ringsOne_5 3 rfl rfl)
theorem dX4_ringsOne_119 : decode cX4_ringsOne 119 = .ok (.invokestatic 40, 3) := dk_184 0 40 (dk_at dksX4_ringsOne_5 4 rfl rfl)
theorem dX4_ringsOne_122 : decode cX4_ringsOne 122 = .ok (.iadd, 1) := dk_96 (dk_at dksX4_ringsOne_5 7 rfl rfl)
theorem dX4_ringsOne_123 : decode cX4_ringsOne 123 = .ok (.dup2, 1) := dk_92 (dk_at dksX4_ringsOne_5 8 rfl rfl)
theorem dX4_ringsOne_124 : decode cX4_ringsOne 124 = .ok (.iaload, 1) := dk_46 (dk_at dksX4_ringsOne_5 9 rfl rfl)
theorem dX4_ringsOne_125 : decode cX4_ringsOne 125 = .ok (.iconst 1, 1) := dk_4 (dk_at dksX4_ringsOne_5 10 rfl rfl)
theorem dX4_ringsOne_126 : decode cX4_ringsOne 126 = .ok (.iadd, 1) := dk_96 (dk_at dksX4_ringsOne_5 11 rfl rfl)
theorem dX4_ringsOne_127 : decode cX4_ringsOne 127 = .ok (.iastore, 1) := dk_79 (dk_at dksX4_ringsOne_5 12 rfl rfl)
theorem dX4_ringsOne_128 : decode cX4_ringsOne 128 = .ok (.iload 5, 2) := dk_21 5 (dk_at dksX4_ringsOne_5 13 rfl rfl)
theorem dX4_ringsOne_130 : decode cX4_ringsOne 130 = .ok (.invokestatic 40, 3) := dk_184 0 40 (dk_at dksX4_ringsOne_5 15 rfl rfl)
theorem dX4_ringsOne_133 : decode cX4_ringsOne 133 = .ok (.ireturn, 1) := dk_172 (dk_at dksX4_ringsOne_5 18 rfl rfl)
abbrev cX4_ticks : ByteArray := prog_13_method_74_code
def yX4_ticks : MethodName := ⟨RX4, "ticks", "(I)I"⟩
def dkwX4_ticks_2 : List UInt8 := [180, 1, 93, 133, 182, 1, 89, 42, 42, 180, 1, 66, 182, 0, 233, 172]
abbrev dktX4_ticks_2 : List UInt8 := dkwX4_ticks_2 ++ []
def dkwX4_ticks_1 : List UInt8 := [42, 180, 0, 146, 27, 182, 1, 114, 42, 3, 181, 0, 11, 42, 42, 180, 1, 86, 133, 182, 1, 89, 42, 42]
abbrev dktX4_ticks_1 : List UInt8 := dkwX4_ticks_1 ++ dktX4_ticks_2
def dkwX4_ticks_0 : List UInt8 := [42, 3, 181, 0, 3, 27, 133, 9, 20, 1, 112, 184, 0, 21, 154, 0, 5, 2, 172, 42, 182, 1, 99, 42]
abbrev dktX4_ticks_0 : List UInt8 := dkwX4_ticks_0 ++ dktX4_ticks_1
theorem dksX4_ticks_0 : cX4_ticks.data.toList.drop 0 = dktX4_ticks_0 := by decide +kernel
theorem dksX4_ticks_1 : cX4_ticks.data.toList.drop 24 = dktX4_ticks_1 := dk_seg dksX4_ticks_0 24 rfl rfl
theorem dksX4_ticks_2 : cX4_ticks.data.toList.drop 48 = dktX4_ticks_2 := dk_seg dksX4_ticks_1 24 rfl rfl
theorem dX4_ticks_0 : decode cX4_ticks 0 = .ok (.aload_n 0, 1) := dk_42 (dk_at dksX4_ticks_0 0 rfl rfl)
theorem dX4_ticks_1 : decode cX4_ticks 1 = .ok (.iconst 0, 1) := dk_3 (dk_at dksX4_ticks_0 1 rfl rfl)
theorem dX4_ticks_2 : decode cX4_ticks 2 = .ok (.putfield 3, 3) := dk_181 0 3 (dk_at dksX4_ticks_0 2 rfl rfl)
theorem dX4_ticks_5 : decode cX4_ticks 5 = .ok (.iload_n 1, 1) := dk_27 (dk_at dksX4_ticks_0 5 rfl rfl)
theorem dX4_ticks_6 : decode cX4_ticks 6 = .ok (.i2l, 1) := dk_133 (dk_at dksX4_ticks_0 6 rfl rfl)
theorem dX4_ticks_7 : decode cX4_ticks 7 = .ok (.lconst 0, 1) := dk_9 (dk_at dksX4_ticks_0 7 rfl rfl)
theorem dX4_ticks_8 : decode cX4_ticks 8 = .ok (.ldc2_w 368, 3) := dk_20 1 112 (dk_at dksX4_ticks_0 8 rfl rfl)
theorem dX4_ticks_11 : decode cX4_ticks 11 = .ok (.invokestatic 21, 3) := dk_184 0 21 (dk_at dksX4_ticks_0 11 rfl rfl)
theorem dX4_ticks_14 : decode cX4_ticks 14 = .ok (.ifCond .ne 5, 3) := dk_154 0 5 (dk_at dksX4_ticks_0 14 rfl rfl)
theorem dX4_ticks_17 : decode cX4_ticks 17 = .ok (.iconst (-1), 1) := dk_2 (dk_at dksX4_ticks_0 17 rfl rfl)
theorem dX4_ticks_18 : decode cX4_ticks 18 = .ok (.ireturn, 1) := dk_172 (dk_at dksX4_ticks_0 18 rfl rfl)
theorem dX4_ticks_19 : decode cX4_ticks 19 = .ok (.aload_n 0, 1) := dk_42 (dk_at dksX4_ticks_0 19 rfl rfl)
theorem dX4_ticks_20 : decode cX4_ticks 20 = .ok (.invokevirtual 355, 3) := dk_182 1 99 (dk_at dksX4_ticks_0 20 rfl rfl)
theorem dX4_ticks_23 : decode cX4_ticks 23 = .ok (.aload_n 0, 1) := dk_42 (dk_at dksX4_ticks_0 23 rfl rfl)
theorem dX4_ticks_24 : decode cX4_ticks 24 = .ok (.aload_n 0, 1) := dk_42 (dk_at dksX4_ticks_1 0 rfl rfl)
theorem dX4_ticks_25 : decode cX4_ticks 25 = .ok (.getfield 146, 3) := dk_180 0 146 (dk_at dksX4_ticks_1 1 rfl rfl)
theorem dX4_ticks_28 : decode cX4_ticks 28 = .ok (.iload_n 1, 1) := dk_27 (dk_at dksX4_ticks_1 4 rfl rfl)
theorem dX4_ticks_29 : decode cX4_ticks 29 = .ok (.invokevirtual 370, 3) := dk_182 1 114 (dk_at dksX4_ticks_1 5 rfl rfl)
theorem dX4_ticks_32 : decode cX4_ticks 32 = .ok (.aload_n 0, 1) := dk_42 (dk_at dksX4_ticks_1 8 rfl rfl)
theorem dX4_ticks_33 : decode cX4_ticks 33 = .ok (.iconst 0, 1) := dk_3 (dk_at dksX4_ticks_1 9 rfl rfl)
theorem dX4_ticks_34 : decode cX4_ticks 34 = .ok (.putfield 11, 3) := dk_181 0 11 (dk_at dksX4_ticks_1 10 rfl rfl)
theorem dX4_ticks_37 : decode cX4_ticks 37 = .ok (.aload_n 0, 1) := dk_42 (dk_at dksX4_ticks_1 13 rfl rfl)
theorem dX4_ticks_38 : decode cX4_ticks 38 = .ok (.aload_n 0, 1) := dk_42 (dk_at dksX4_ticks_1 14 rfl rfl)
theorem dX4_ticks_39 : decode cX4_ticks 39 = .ok (.getfield 342, 3) := dk_180 1 86 (dk_at dksX4_ticks_1 15 rfl rfl)
theorem dX4_ticks_42 : decode cX4_ticks 42 = .ok (.i2l, 1) := dk_133 (dk_at dksX4_ticks_1 18 rfl rfl)
theorem dX4_ticks_43 : decode cX4_ticks 43 = .ok (.invokevirtual 345, 3) := dk_182 1 89 (dk_at dksX4_ticks_1 19 rfl rfl)
theorem dX4_ticks_46 : decode cX4_ticks 46 = .ok (.aload_n 0, 1) := dk_42 (dk_at dksX4_ticks_1 22 rfl rfl)
theorem dX4_ticks_47 : decode cX4_ticks 47 = .ok (.aload_n 0, 1) := dk_42 (dk_at dksX4_ticks_1 23 rfl rfl)
theorem dX4_ticks_48 : decode cX4_ticks 48 = .ok (.getfield 349, 3) := dk_180 1 93 (dk_at dksX4_ticks_2 0 rfl rfl)
theorem dX4_ticks_51 : decode cX4_ticks 51 = .ok (.i2l, 1) := dk_133 (dk_at dksX4_ticks_2 3 rfl rfl)
theorem dX4_ticks_52 : decode cX4_ticks 52 = .ok (.invokevirtual 345, 3) := dk_182 1 89 (dk_at dksX4_ticks_2 4 rfl rfl)
theorem dX4_ticks_55 : decode cX4_ticks 55 = .ok (.aload_n 0, 1) := dk_42 (dk_at dksX4_ticks_2 7 rfl rfl)
theorem dX4_ticks_56 : decode cX4_ticks 56 = .ok (.aload_n 0, 1) := dk_42 (dk_at dksX4_ticks_2 8 rfl rfl)
theorem dX4_ticks_57 : decode cX4_ticks 57 = .ok (.getfield 322, 3) := dk_180 1 66 (dk_at dksX4_ticks_2 9 rfl rfl)
theorem dX4_ticks_60 : decode cX4_ticks 60 = .ok (.invokevirtual 233, 3) := dk_182 0 233 (dk_at dksX4_ticks_2 12 rfl rfl)
theorem dX4_ticks_63 : decode cX4_ticks 63 = .ok (.ireturn, 1) := dk_172 (dk_at dksX4_ticks_2 15 rfl rfl)
abbrev cX4_ticksGo : ByteArray := prog_13_method_71_code
def yX4_ticksGo : MethodName := ⟨RX4, "ticksGo", "([II)V"⟩
def dkwX4_ticksGo_2 : List UInt8 := [96, 181, 1, 93, 132, 3, 1, 167, 255, 218, 177]
abbrev dktX4_ticksGo_2 : List UInt8 := dkwX4_ticksGo_2 ++ []
def dkwX4_ticksGo_1 : List UInt8 := [182, 1, 96, 42, 89, 180, 1, 93, 43, 17, 1, 237, 46, 154, 0, 7, 4, 167, 0, 4, 3, 184, 0, 40]
abbrev dktX4_ticksGo_1 : List UInt8 := dkwX4_ticksGo_1 ++ dktX4_ticksGo_2
def dkwX4_ticksGo_0 : List UInt8 := [42, 3, 181, 1, 66, 42, 3, 181, 1, 86, 42, 3, 181, 1, 93, 3, 62, 29, 28, 162, 0, 39, 42, 43]
abbrev dktX4_ticksGo_0 : List UInt8 := dkwX4_ticksGo_0 ++ dktX4_ticksGo_1
theorem dksX4_ticksGo_0 : cX4_ticksGo.data.toList.drop 0 = dktX4_ticksGo_0 := by decide +kernel
theorem dksX4_ticksGo_1 : cX4_ticksGo.data.toList.drop 24 = dktX4_ticksGo_1 := dk_seg dksX4_ticksGo_0 24 rfl rfl
theorem dksX4_ticksGo_2 : cX4_ticksGo.data.toList.drop 48 = dktX4_ticksGo_2 := dk_seg dksX4_ticksGo_1 24 rfl rfl
theorem dX4_ticksGo_0 : decode cX4_ticksGo 0 = .ok (.aload_n 0, 1) := dk_42 (dk_at dksX4_ticksGo_0 0 rfl rfl)
theorem dX4_ticksGo_1 : decode cX4_ticksGo 1 = .ok (.iconst 0, 1) := dk_3 (dk_at dksX4_ticksGo_0 1 rfl rfl)
theorem dX4_ticksGo_2 : decode cX4_ticksGo 2 = .ok (.putfield 322, 3) := dk_181 1 66 (dk_at dksX4_ticksGo_0 2 rfl rfl)
theorem dX4_ticksGo_5 : decode cX4_ticksGo 5 = .ok (.aload_n 0, 1) := dk_42 (dk_at dksX4_ticksGo_0 5 rfl rfl)
theorem dX4_ticksGo_6 : decode cX4_ticksGo 6 = .ok (.iconst 0, 1) := dk_3 (dk_at dksX4_ticksGo_0 6 rfl rfl)
theorem dX4_ticksGo_7 : decode cX4_ticksGo 7 = .ok (.putfield 342, 3) := dk_181 1 86 (dk_at dksX4_ticksGo_0 7 rfl rfl)
theorem dX4_ticksGo_10 : decode cX4_ticksGo 10 = .ok (.aload_n 0, 1) := dk_42 (dk_at dksX4_ticksGo_0 10 rfl rfl)
theorem dX4_ticksGo_11 : decode cX4_ticksGo 11 = .ok (.iconst 0, 1) := dk_3 (dk_at dksX4_ticksGo_0 11 rfl rfl)
theorem dX4_ticksGo_12 : decode cX4_ticksGo 12 = .ok (.putfield 349, 3) := dk_181 1 93 (dk_at dksX4_ticksGo_0 12 rfl rfl)
theorem dX4_ticksGo_15 : decode cX4_ticksGo 15 = .ok (.iconst 0, 1) := dk_3 (dk_at dksX4_ticksGo_0 15 rfl rfl)
theorem dX4_ticksGo_16 : decode cX4_ticksGo 16 = .ok (.istore_n 3, 1) := dk_62 (dk_at dksX4_ticksGo_0 16 rfl rfl)
theorem dX4_ticksGo_17 : decode cX4_ticksGo 17 = .ok (.iload_n 3, 1) := dk_29 (dk_at dksX4_ticksGo_0 17 rfl rfl)
theorem dX4_ticksGo_18 : decode cX4_ticksGo 18 = .ok (.iload_n 2, 1) := dk_28 (dk_at dksX4_ticksGo_0 18 rfl rfl)
theorem dX4_ticksGo_19 : decode cX4_ticksGo 19 = .ok (.if_icmp .ge 39, 3) := dk_162 0 39 (dk_at dksX4_ticksGo_0 19 rfl rfl)
theorem dX4_ticksGo_22 : decode cX4_ticksGo 22 = .ok (.aload_n 0, 1) := dk_42 (dk_at dksX4_ticksGo_0 22 rfl rfl)
theorem dX4_ticksGo_23 : decode cX4_ticksGo 23 = .ok (.aload_n 1, 1) := dk_43 (dk_at dksX4_ticksGo_0 23 rfl rfl)
theorem dX4_ticksGo_24 : decode cX4_ticksGo 24 = .ok (.invokevirtual 352, 3) := dk_182 1 96 (dk_at dksX4_ticksGo_1 0 rfl rfl)
theorem dX4_ticksGo_27 : decode cX4_ticksGo 27 = .ok (.aload_n 0, 1) := dk_42 (dk_at dksX4_ticksGo_1 3 rfl rfl)
theorem dX4_ticksGo_28 : decode cX4_ticksGo 28 = .ok (.dup, 1) := dk_89 (dk_at dksX4_ticksGo_1 4 rfl rfl)
theorem dX4_ticksGo_29 : decode cX4_ticksGo 29 = .ok (.getfield 349, 3) := dk_180 1 93 (dk_at dksX4_ticksGo_1 5 rfl rfl)
theorem dX4_ticksGo_32 : decode cX4_ticksGo 32 = .ok (.aload_n 1, 1) := dk_43 (dk_at dksX4_ticksGo_1 8 rfl rfl)
theorem dX4_ticksGo_33 : decode cX4_ticksGo 33 = .ok (.sipush 493, 3) := dk_17 1 237 (dk_at dksX4_ticksGo_1 9 rfl rfl)
theorem dX4_ticksGo_36 : decode cX4_ticksGo 36 = .ok (.iaload, 1) := dk_46 (dk_at dksX4_ticksGo_1 12 rfl rfl)
theorem dX4_ticksGo_37 : decode cX4_ticksGo 37 = .ok (.ifCond .ne 7, 3) := dk_154 0 7 (dk_at dksX4_ticksGo_1 13 rfl rfl)
theorem dX4_ticksGo_40 : decode cX4_ticksGo 40 = .ok (.iconst 1, 1) := dk_4 (dk_at dksX4_ticksGo_1 16 rfl rfl)
theorem dX4_ticksGo_41 : decode cX4_ticksGo 41 = .ok (.goto 4, 3) := dk_167 0 4 (dk_at dksX4_ticksGo_1 17 rfl rfl)
theorem dX4_ticksGo_44 : decode cX4_ticksGo 44 = .ok (.iconst 0, 1) := dk_3 (dk_at dksX4_ticksGo_1 20 rfl rfl)
theorem dX4_ticksGo_45 : decode cX4_ticksGo 45 = .ok (.invokestatic 40, 3) := dk_184 0 40 (dk_at dksX4_ticksGo_1 21 rfl rfl)
theorem dX4_ticksGo_48 : decode cX4_ticksGo 48 = .ok (.iadd, 1) := dk_96 (dk_at dksX4_ticksGo_2 0 rfl rfl)
theorem dX4_ticksGo_49 : decode cX4_ticksGo 49 = .ok (.putfield 349, 3) := dk_181 1 93 (dk_at dksX4_ticksGo_2 1 rfl rfl)
theorem dX4_ticksGo_52 : decode cX4_ticksGo 52 = .ok (.iinc 3 1, 3) := dk_132 3 1 (dk_at dksX4_ticksGo_2 4 rfl rfl)
theorem dX4_ticksGo_55 : decode cX4_ticksGo 55 = .ok (.goto (-38), 3) := dk_167 255 218 (dk_at dksX4_ticksGo_2 7 rfl rfl)
theorem dX4_ticksGo_58 : decode cX4_ticksGo 58 = .ok (.return_, 1) := dk_177 (dk_at dksX4_ticksGo_2 10 rfl rfl)
abbrev cX4_tickGoes : ByteArray := prog_13_method_67_code
def yX4_tickGoes : MethodName := ⟨RX4, "tickGoes", "([I)V"⟩
def dkwX4_tickGoes_9 : List UInt8 := [17, 3, 59, 92, 46, 4, 96, 79, 177]
abbrev dktX4_tickGoes_9 : List UInt8 := dkwX4_tickGoes_9 ++ []
def dkwX4_tickGoes_8 : List UInt8 := [182, 1, 83, 167, 255, 230, 42, 89, 180, 1, 86, 43, 184, 1, 76, 29, 100, 96, 181, 1, 86, 43]
abbrev dktX4_tickGoes_8 : List UInt8 := dkwX4_tickGoes_8 ++ dktX4_tickGoes_9
def dkwX4_tickGoes_7 : List UInt8 := [17, 1, 237, 46, 43, 17, 3, 58, 46, 162, 0, 19, 42, 43, 182, 1, 79, 153, 0, 11, 42, 43]
abbrev dktX4_tickGoes_7 : List UInt8 := dkwX4_tickGoes_7 ++ dktX4_tickGoes_8
def dkwX4_tickGoes_6 : List UInt8 := [184, 1, 22, 43, 29, 16, 8, 3, 184, 1, 22, 132, 3, 1, 167, 255, 176, 43, 184, 1, 76, 62, 43]
abbrev dktX4_tickGoes_6 : List UInt8 := dkwX4_tickGoes_6 ++ dktX4_tickGoes_7
def dkwX4_tickGoes_5 : List UInt8 := [5, 184, 0, 220, 43, 29, 6, 184, 0, 220, 160, 0, 24, 43, 29, 16, 7, 43, 29, 5, 184, 0, 220]
abbrev dktX4_tickGoes_5 : List UInt8 := dkwX4_tickGoes_5 ++ dktX4_tickGoes_6
def dkwX4_tickGoes_4 : List UInt8 := [29, 16, 8, 184, 0, 220, 4, 160, 0, 51, 43, 29, 5, 43, 29, 4, 184, 0, 220, 184, 1, 22, 43, 29]
abbrev dktX4_tickGoes_4 : List UInt8 := dkwX4_tickGoes_4 ++ dktX4_tickGoes_5
def dkwX4_tickGoes_3 : List UInt8 := [182, 1, 72, 3, 62, 29, 42, 180, 0, 198, 162, 0, 78, 42, 180, 0, 143, 29, 46, 4, 160, 0, 62, 43]
abbrev dktX4_tickGoes_3 : List UInt8 := dkwX4_tickGoes_3 ++ dktX4_tickGoes_4
def dkwX4_tickGoes_2 : List UInt8 := [96, 46, 154, 0, 12, 42, 43, 28, 182, 1, 69, 167, 255, 229, 132, 2, 1, 167, 255, 223, 42, 43]
abbrev dktX4_tickGoes_2 : List UInt8 := dkwX4_tickGoes_2 ++ dktX4_tickGoes_3
def dkwX4_tickGoes_1 : List UInt8 := [132, 2, 1, 167, 255, 231, 3, 61, 28, 43, 17, 1, 237, 46, 162, 0, 30, 43, 28, 184, 0, 236, 16, 11]
abbrev dktX4_tickGoes_1 : List UInt8 := dkwX4_tickGoes_1 ++ dktX4_tickGoes_2
def dkwX4_tickGoes_0 : List UInt8 := [3, 61, 28, 43, 17, 1, 237, 46, 162, 0, 22, 43, 28, 184, 0, 236, 16, 11, 96, 92, 46, 4, 100, 79]
abbrev dktX4_tickGoes_0 : List UInt8 := dkwX4_tickGoes_0 ++ dktX4_tickGoes_1
theorem dksX4_tickGoes_0 : cX4_tickGoes.data.toList.drop 0 = dktX4_tickGoes_0 := by decide +kernel
theorem dksX4_tickGoes_1 : cX4_tickGoes.data.toList.drop 24 = dktX4_tickGoes_1 := dk_seg dksX4_tickGoes_0 24 rfl rfl
theorem dksX4_tickGoes_2 : cX4_tickGoes.data.toList.drop 48 = dktX4_tickGoes_2 := dk_seg dksX4_tickGoes_1 24 rfl rfl
theorem dksX4_tickGoes_3 : cX4_tickGoes.data.toList.drop 70 = dktX4_tickGoes_3 := dk_seg dksX4_tickGoes_2 22 rfl rfl
theorem dksX4_tickGoes_4 : cX4_tickGoes.data.toList.drop 94 = dktX4_tickGoes_4 := dk_seg dksX4_tickGoes_3 24 rfl rfl
theorem dksX4_tickGoes_5 : cX4_tickGoes.data.toList.drop 118 = dktX4_tickGoes_5 := dk_seg dksX4_tickGoes_4 24 rfl rfl
theorem dksX4_tickGoes_6 : cX4_tickGoes.data.toList.drop 141 = dktX4_tickGoes_6 := dk_seg dksX4_tickGoes_5 23 rfl rfl
theorem dksX4_tickGoes_7 : cX4_tickGoes.data.toList.drop 164 = dktX4_tickGoes_7 := dk_seg dksX4_tickGoes_6 23 rfl rfl
theorem dksX4_tickGoes_8 : cX4_tickGoes.data.toList.drop 186 = dktX4_tickGoes_8 := dk_seg dksX4_tickGoes_7 22 rfl rfl
theorem dksX4_tickGoes_9 : cX4_tickGoes.data.toList.drop 208 = dktX4_tickGoes_9 := dk_seg dksX4_tickGoes_8 22 rfl rfl
theorem dX4_tickGoes_0 : decode cX4_tickGoes 0 = .ok (.iconst 0, 1) := dk_3 (dk_at dksX4_tickGoes_0 0 rfl rfl)
theorem dX4_tickGoes_1 : decode cX4_tickGoes 1 = .ok (.istore_n 2, 1) := dk_61 (dk_at dksX4_tickGoes_0 1 rfl rfl)
theorem dX4_tickGoes_2 : decode cX4_tickGoes 2 = .ok (.iload_n 2, 1) := dk_28 (dk_at dksX4_tickGoes_0 2 rfl rfl)
theorem dX4_tickGoes_3 : decode cX4_tickGoes 3 = .ok (.aload_n 1, 1) := dk_43 (dk_at dksX4_tickGoes_0 3 rfl rfl)
theorem dX4_tickGoes_4 : decode cX4_tickGoes 4 = .ok (.sipush 493, 3) := dk_17 1 237 (dk_at dksX4_tickGoes_0 4 rfl rfl)
theorem dX4_tickGoes_7 : decode cX4_tickGoes 7 = .ok (.iaload, 1) := dk_46 (dk_at dksX4_tickGoes_0 7 rfl rfl)
theorem dX4_tickGoes_8 : decode cX4_tickGoes 8 = .ok (.if_icmp .ge 22, 3) := dk_162 0 22 (dk_at dksX4_tickGoes_0 8 rfl rfl)
theorem dX4_tickGoes_11 : decode cX4_tickGoes 11 = .ok (.aload_n 1, 1) := dk_43 (dk_at dksX4_tickGoes_0 11 rfl rfl)
theorem dX4_tickGoes_12 : decode cX4_tickGoes 12 = .ok (.iload_n 2, 1) := dk_28 (dk_at dksX4_tickGoes_0 12 rfl rfl)
theorem dX4_tickGoes_13 : decode cX4_tickGoes 13 = .ok (.invokestatic 236, 3) := dk_184 0 236 (dk_at dksX4_tickGoes_0 13 rfl rfl)
theorem dX4_tickGoes_16 : decode cX4_tickGoes 16 = .ok (.bipush 11, 2) := dk_16 11 (dk_at dksX4_tickGoes_0 16 rfl rfl)
theorem dX4_tickGoes_18 : decode cX4_tickGoes 18 = .ok (.iadd, 1) := dk_96 (dk_at dksX4_tickGoes_0 18 rfl rfl)
theorem dX4_tickGoes_19 : decode cX4_tickGoes 19 = .ok (.dup2, 1) := dk_92 (dk_at dksX4_tickGoes_0 19 rfl rfl)
theorem dX4_tickGoes_20 : decode cX4_tickGoes 20 = .ok (.iaload, 1) := dk_46 (dk_at dksX4_tickGoes_0 20 rfl rfl)
theorem dX4_tickGoes_21 : decode cX4_tickGoes 21 = .ok (.iconst 1, 1) := dk_4 (dk_at dksX4_tickGoes_0 21 rfl rfl)
theorem dX4_tickGoes_22 : decode cX4_tickGoes 22 = .ok (.isub, 1) := dk_100 (dk_at dksX4_tickGoes_0 22 rfl rfl)
theorem dX4_tickGoes_23 : decode cX4_tickGoes 23 = .ok (.iastore, 1) := dk_79 (dk_at dksX4_tickGoes_0 23 rfl rfl)
theorem dX4_tickGoes_24 : decode cX4_tickGoes 24 = .ok (.iinc 2 1, 3) := dk_132 2 1 (dk_at dksX4_tickGoes_1 0 rfl rfl)
theorem dX4_tickGoes_27 : decode cX4_tickGoes 27 = .ok (.goto (-25), 3) := dk_167 255 231 (dk_at dksX4_tickGoes_1 3 rfl rfl)
theorem dX4_tickGoes_30 : decode cX4_tickGoes 30 = .ok (.iconst 0, 1) := dk_3 (dk_at dksX4_tickGoes_1 6 rfl rfl)
theorem dX4_tickGoes_31 : decode cX4_tickGoes 31 = .ok (.istore_n 2, 1) := dk_61 (dk_at dksX4_tickGoes_1 7 rfl rfl)
theorem dX4_tickGoes_32 : decode cX4_tickGoes 32 = .ok (.iload_n 2, 1) := dk_28 (dk_at dksX4_tickGoes_1 8 rfl rfl)
theorem dX4_tickGoes_33 : decode cX4_tickGoes 33 = .ok (.aload_n 1, 1) := dk_43 (dk_at dksX4_tickGoes_1 9 rfl rfl)
theorem dX4_tickGoes_34 : decode cX4_tickGoes 34 = .ok (.sipush 493, 3) := dk_17 1 237 (dk_at dksX4_tickGoes_1 10 rfl rfl)
theorem dX4_tickGoes_37 : decode cX4_tickGoes 37 = .ok (.iaload, 1) := dk_46 (dk_at dksX4_tickGoes_1 13 rfl rfl)
theorem dX4_tickGoes_38 : decode cX4_tickGoes 38 = .ok (.if_icmp .ge 30, 3) := dk_162 0 30 (dk_at dksX4_tickGoes_1 14 rfl rfl)
theorem dX4_tickGoes_41 : decode cX4_tickGoes 41 = .ok (.aload_n 1, 1) := dk_43 (dk_at dksX4_tickGoes_1 17 rfl rfl)
theorem dX4_tickGoes_42 : decode cX4_tickGoes 42 = .ok (.iload_n 2, 1) := dk_28 (dk_at dksX4_tickGoes_1 18 rfl rfl)
theorem dX4_tickGoes_43 : decode cX4_tickGoes 43 = .ok (.invokestatic 236, 3) := dk_184 0 236 (dk_at dksX4_tickGoes_1 19 rfl rfl)
theorem dX4_tickGoes_46 : decode cX4_tickGoes 46 = .ok (.bipush 11, 2) := dk_16 11 (dk_at dksX4_tickGoes_1 22 rfl rfl)
theorem dX4_tickGoes_48 : decode cX4_tickGoes 48 = .ok (.iadd, 1) := dk_96 (dk_at dksX4_tickGoes_2 0 rfl rfl)
theorem dX4_tickGoes_49 : decode cX4_tickGoes 49 = .ok (.iaload, 1) := dk_46 (dk_at dksX4_tickGoes_2 1 rfl rfl)
theorem dX4_tickGoes_50 : decode cX4_tickGoes 50 = .ok (.ifCond .ne 12, 3) := dk_154 0 12 (dk_at dksX4_tickGoes_2 2 rfl rfl)
theorem dX4_tickGoes_53 : decode cX4_tickGoes 53 = .ok (.aload_n 0, 1) := dk_42 (dk_at dksX4_tickGoes_2 5 rfl rfl)
theorem dX4_tickGoes_54 : decode cX4_tickGoes 54 = .ok (.aload_n 1, 1) := dk_43 (dk_at dksX4_tickGoes_2 6 rfl rfl)
theorem dX4_tickGoes_55 : decode cX4_tickGoes 55 = .ok (.iload_n 2, 1) := dk_28 (dk_at dksX4_tickGoes_2 7 rfl rfl)
theorem dX4_tickGoes_56 : decode cX4_tickGoes 56 = .ok (.invokevirtual 325, 3) := dk_182 1 69 (dk_at dksX4_tickGoes_2 8 rfl rfl)
theorem dX4_tickGoes_59 : decode cX4_tickGoes 59 = .ok (.goto (-27), 3) := dk_167 255 229 (dk_at dksX4_tickGoes_2 11 rfl rfl)
theorem dX4_tickGoes_62 : decode cX4_tickGoes 62 = .ok (.iinc 2 1, 3) := dk_132 2 1 (dk_at dksX4_tickGoes_2 14 rfl rfl)
theorem dX4_tickGoes_65 : decode cX4_tickGoes 65 = .ok (.goto (-33), 3) := dk_167 255 223 (dk_at dksX4_tickGoes_2 17 rfl rfl)
theorem dX4_tickGoes_68 : decode cX4_tickGoes 68 = .ok (.aload_n 0, 1) := dk_42 (dk_at dksX4_tickGoes_2 20 rfl rfl)
theorem dX4_tickGoes_69 : decode cX4_tickGoes 69 = .ok (.aload_n 1, 1) := dk_43 (dk_at dksX4_tickGoes_2 21 rfl rfl)
theorem dX4_tickGoes_70 : decode cX4_tickGoes 70 = .ok (.invokevirtual 328, 3) := dk_182 1 72 (dk_at dksX4_tickGoes_3 0 rfl rfl)
theorem dX4_tickGoes_73 : decode cX4_tickGoes 73 = .ok (.iconst 0, 1) := dk_3 (dk_at dksX4_tickGoes_3 3 rfl rfl)
theorem dX4_tickGoes_74 : decode cX4_tickGoes 74 = .ok (.istore_n 3, 1) := dk_62 (dk_at dksX4_tickGoes_3 4 rfl rfl)
theorem dX4_tickGoes_75 : decode cX4_tickGoes 75 = .ok (.iload_n 3, 1) := dk_29 (dk_at dksX4_tickGoes_3 5 rfl rfl)
theorem dX4_tickGoes_76 : decode cX4_tickGoes 76 = .ok (.aload_n 0, 1) := dk_42 (dk_at dksX4_tickGoes_3 6 rfl rfl)
theorem dX4_tickGoes_77 : decode cX4_tickGoes 77 = .ok (.getfield 198, 3) := dk_180 0 198 (dk_at dksX4_tickGoes_3 7 rfl rfl)
theorem dX4_tickGoes_80 : decode cX4_tickGoes 80 = .ok (.if_icmp .ge 78, 3) := dk_162 0 78 (dk_at dksX4_tickGoes_3 10 rfl rfl)
theorem dX4_tickGoes_83 : decode cX4_tickGoes 83 = .ok (.aload_n 0, 1) := dk_42 (dk_at dksX4_tickGoes_3 13 rfl rfl)
theorem dX4_tickGoes_84 : decode cX4_tickGoes 84 = .ok (.getfield 143, 3) := dk_180 0 143 (dk_at dksX4_tickGoes_3 14 rfl rfl)
theorem dX4_tickGoes_87 : decode cX4_tickGoes 87 = .ok (.iload_n 3, 1) := dk_29 (dk_at dksX4_tickGoes_3 17 rfl rfl)
theorem dX4_tickGoes_88 : decode cX4_tickGoes 88 = .ok (.iaload, 1) := dk_46 (dk_at dksX4_tickGoes_3 18 rfl rfl)
theorem dX4_tickGoes_89 : decode cX4_tickGoes 89 = .ok (.iconst 1, 1) := dk_4 (dk_at dksX4_tickGoes_3 19 rfl rfl)
theorem dX4_tickGoes_90 : decode cX4_tickGoes 90 = .ok (.if_icmp .ne 62, 3) := dk_160 0 62 (dk_at dksX4_tickGoes_3 20 rfl rfl)
theorem dX4_tickGoes_93 : decode cX4_tickGoes 93 = .ok (.aload_n 1, 1) := dk_43 (dk_at dksX4_tickGoes_3 23 rfl rfl)
theorem dX4_tickGoes_94 : decode cX4_tickGoes 94 = .ok (.iload_n 3, 1) := dk_29 (dk_at dksX4_tickGoes_4 0 rfl rfl)
theorem dX4_tickGoes_95 : decode cX4_tickGoes 95 = .ok (.bipush 8, 2) := dk_16 8 (dk_at dksX4_tickGoes_4 1 rfl rfl)
theorem dX4_tickGoes_97 : decode cX4_tickGoes 97 = .ok (.invokestatic 220, 3) := dk_184 0 220 (dk_at dksX4_tickGoes_4 3 rfl rfl)
theorem dX4_tickGoes_100 : decode cX4_tickGoes 100 = .ok (.iconst 1, 1) := dk_4 (dk_at dksX4_tickGoes_4 6 rfl rfl)
theorem dX4_tickGoes_101 : decode cX4_tickGoes 101 = .ok (.if_icmp .ne 51, 3) := dk_160 0 51 (dk_at dksX4_tickGoes_4 7 rfl rfl)
theorem dX4_tickGoes_104 : decode cX4_tickGoes 104 = .ok (.aload_n 1, 1) := dk_43 (dk_at dksX4_tickGoes_4 10 rfl rfl)
theorem dX4_tickGoes_105 : decode cX4_tickGoes 105 = .ok (.iload_n 3, 1) := dk_29 (dk_at dksX4_tickGoes_4 11 rfl rfl)
theorem dX4_tickGoes_106 : decode cX4_tickGoes 106 = .ok (.iconst 2, 1) := dk_5 (dk_at dksX4_tickGoes_4 12 rfl rfl)
theorem dX4_tickGoes_107 : decode cX4_tickGoes 107 = .ok (.aload_n 1, 1) := dk_43 (dk_at dksX4_tickGoes_4 13 rfl rfl)
theorem dX4_tickGoes_108 : decode cX4_tickGoes 108 = .ok (.iload_n 3, 1) := dk_29 (dk_at dksX4_tickGoes_4 14 rfl rfl)
theorem dX4_tickGoes_109 : decode cX4_tickGoes 109 = .ok (.iconst 1, 1) := dk_4 (dk_at dksX4_tickGoes_4 15 rfl rfl)
theorem dX4_tickGoes_110 : decode cX4_tickGoes 110 = .ok (.invokestatic 220, 3) := dk_184 0 220 (dk_at dksX4_tickGoes_4 16 rfl rfl)
theorem dX4_tickGoes_113 : decode cX4_tickGoes 113 = .ok (.invokestatic 278, 3) := dk_184 1 22 (dk_at dksX4_tickGoes_4 19 rfl rfl)
theorem dX4_tickGoes_116 : decode cX4_tickGoes 116 = .ok (.aload_n 1, 1) := dk_43 (dk_at dksX4_tickGoes_4 22 rfl rfl)
theorem dX4_tickGoes_117 : decode cX4_tickGoes 117 = .ok (.iload_n 3, 1) := dk_29 (dk_at dksX4_tickGoes_4 23 rfl rfl)
theorem dX4_tickGoes_118 : decode cX4_tickGoes 118 = .ok (.iconst 2, 1) := dk_5 (dk_at dksX4_tickGoes_5 0 rfl rfl)
theorem dX4_tickGoes_119 : decode cX4_tickGoes 119 = .ok (.invokestatic 220, 3) := dk_184 0 220 (dk_at dksX4_tickGoes_5 1 rfl rfl)
theorem dX4_tickGoes_122 : decode cX4_tickGoes 122 = .ok (.aload_n 1, 1) := dk_43 (dk_at dksX4_tickGoes_5 4 rfl rfl)
theorem dX4_tickGoes_123 : decode cX4_tickGoes 123 = .ok (.iload_n 3, 1) := dk_29 (dk_at dksX4_tickGoes_5 5 rfl rfl)
theorem dX4_tickGoes_124 : decode cX4_tickGoes 124 = .ok (.iconst 3, 1) := dk_6 (dk_at dksX4_tickGoes_5 6 rfl rfl)
theorem dX4_tickGoes_125 : decode cX4_tickGoes 125 = .ok (.invokestatic 220, 3) := dk_184 0 220 (dk_at dksX4_tickGoes_5 7 rfl rfl)
theorem dX4_tickGoes_128 : decode cX4_tickGoes 128 = .ok (.if_icmp .ne 24, 3) := dk_160 0 24 (dk_at dksX4_tickGoes_5 10 rfl rfl)
theorem dX4_tickGoes_131 : decode cX4_tickGoes 131 = .ok (.aload_n 1, 1) := dk_43 (dk_at dksX4_tickGoes_5 13 rfl rfl)
theorem dX4_tickGoes_132 : decode cX4_tickGoes 132 = .ok (.iload_n 3, 1) := dk_29 (dk_at dksX4_tickGoes_5 14 rfl rfl)
theorem dX4_tickGoes_133 : decode cX4_tickGoes 133 = .ok (.bipush 7, 2) := dk_16 7 (dk_at dksX4_tickGoes_5 15 rfl rfl)
theorem dX4_tickGoes_135 : decode cX4_tickGoes 135 = .ok (.aload_n 1, 1) := dk_43 (dk_at dksX4_tickGoes_5 17 rfl rfl)
theorem dX4_tickGoes_136 : decode cX4_tickGoes 136 = .ok (.iload_n 3, 1) := dk_29 (dk_at dksX4_tickGoes_5 18 rfl rfl)
theorem dX4_tickGoes_137 : decode cX4_tickGoes 137 = .ok (.iconst 2, 1) := dk_5 (dk_at dksX4_tickGoes_5 19 rfl rfl)
theorem dX4_tickGoes_138 : decode cX4_tickGoes 138 = .ok (.invokestatic 220, 3) := dk_184 0 220 (dk_at dksX4_tickGoes_5 20 rfl rfl)
theorem dX4_tickGoes_141 : decode cX4_tickGoes 141 = .ok (.invokestatic 278, 3) := dk_184 1 22 (dk_at dksX4_tickGoes_6 0 rfl rfl)
theorem dX4_tickGoes_144 : decode cX4_tickGoes 144 = .ok (.aload_n 1, 1) := dk_43 (dk_at dksX4_tickGoes_6 3 rfl rfl)
theorem dX4_tickGoes_145 : decode cX4_tickGoes 145 = .ok (.iload_n 3, 1) := dk_29 (dk_at dksX4_tickGoes_6 4 rfl rfl)
theorem dX4_tickGoes_146 : decode cX4_tickGoes 146 = .ok (.bipush 8, 2) := dk_16 8 (dk_at dksX4_tickGoes_6 5 rfl rfl)
theorem dX4_tickGoes_148 : decode cX4_tickGoes 148 = .ok (.iconst 0, 1) := dk_3 (dk_at dksX4_tickGoes_6 7 rfl rfl)
theorem dX4_tickGoes_149 : decode cX4_tickGoes 149 = .ok (.invokestatic 278, 3) := dk_184 1 22 (dk_at dksX4_tickGoes_6 8 rfl rfl)
theorem dX4_tickGoes_152 : decode cX4_tickGoes 152 = .ok (.iinc 3 1, 3) := dk_132 3 1 (dk_at dksX4_tickGoes_6 11 rfl rfl)
theorem dX4_tickGoes_155 : decode cX4_tickGoes 155 = .ok (.goto (-80), 3) := dk_167 255 176 (dk_at dksX4_tickGoes_6 14 rfl rfl)
theorem dX4_tickGoes_158 : decode cX4_tickGoes 158 = .ok (.aload_n 1, 1) := dk_43 (dk_at dksX4_tickGoes_6 17 rfl rfl)
theorem dX4_tickGoes_159 : decode cX4_tickGoes 159 = .ok (.invokestatic 332, 3) := dk_184 1 76 (dk_at dksX4_tickGoes_6 18 rfl rfl)
theorem dX4_tickGoes_162 : decode cX4_tickGoes 162 = .ok (.istore_n 3, 1) := dk_62 (dk_at dksX4_tickGoes_6 21 rfl rfl)
theorem dX4_tickGoes_163 : decode cX4_tickGoes 163 = .ok (.aload_n 1, 1) := dk_43 (dk_at dksX4_tickGoes_6 22 rfl rfl)
theorem dX4_tickGoes_164 : decode cX4_tickGoes 164 = .ok (.sipush 493, 3) := dk_17 1 237 (dk_at dksX4_tickGoes_7 0 rfl rfl)
theorem dX4_tickGoes_167 : decode cX4_tickGoes 167 = .ok (.iaload, 1) := dk_46 (dk_at dksX4_tickGoes_7 3 rfl rfl)
theorem dX4_tickGoes_168 : decode cX4_tickGoes 168 = .ok (.aload_n 1, 1) := dk_43 (dk_at dksX4_tickGoes_7 4 rfl rfl)
theorem dX4_tickGoes_169 : decode cX4_tickGoes 169 = .ok (.sipush 826, 3) := dk_17 3 58 (dk_at dksX4_tickGoes_7 5 rfl rfl)
theorem dX4_tickGoes_172 : decode cX4_tickGoes 172 = .ok (.iaload, 1) := dk_46 (dk_at dksX4_tickGoes_7 8 rfl rfl)
theorem dX4_tickGoes_173 : decode cX4_tickGoes 173 = .ok (.if_icmp .ge 19, 3) := dk_162 0 19 (dk_at dksX4_tickGoes_7 9 rfl rfl)
theorem dX4_tickGoes_176 : decode cX4_tickGoes 176 = .ok (.aload_n 0, 1) := dk_42 (dk_at dksX4_tickGoes_7 12 rfl rfl)
theorem dX4_tickGoes_177 : decode cX4_tickGoes 177 = .ok (.aload_n 1, 1) := dk_43 (dk_at dksX4_tickGoes_7 13 rfl rfl)
theorem dX4_tickGoes_178 : decode cX4_tickGoes 178 = .ok (.invokevirtual 335, 3) := dk_182 1 79 (dk_at dksX4_tickGoes_7 14 rfl rfl)
theorem dX4_tickGoes_181 : decode cX4_tickGoes 181 = .ok (.ifCond .eq 11, 3) := dk_153 0 11 (dk_at dksX4_tickGoes_7 17 rfl rfl)
theorem dX4_tickGoes_184 : decode cX4_tickGoes 184 = .ok (.aload_n 0, 1) := dk_42 (dk_at dksX4_tickGoes_7 20 rfl rfl)
theorem dX4_tickGoes_185 : decode cX4_tickGoes 185 = .ok (.aload_n 1, 1) := dk_43 (dk_at dksX4_tickGoes_7 21 rfl rfl)
theorem dX4_tickGoes_186 : decode cX4_tickGoes 186 = .ok (.invokevirtual 339, 3) := dk_182 1 83 (dk_at dksX4_tickGoes_8 0 rfl rfl)
theorem dX4_tickGoes_189 : decode cX4_tickGoes 189 = .ok (.goto (-26), 3) := dk_167 255 230 (dk_at dksX4_tickGoes_8 3 rfl rfl)
theorem dX4_tickGoes_192 : decode cX4_tickGoes 192 = .ok (.aload_n 0, 1) := dk_42 (dk_at dksX4_tickGoes_8 6 rfl rfl)
theorem dX4_tickGoes_193 : decode cX4_tickGoes 193 = .ok (.dup, 1) := dk_89 (dk_at dksX4_tickGoes_8 7 rfl rfl)
theorem dX4_tickGoes_194 : decode cX4_tickGoes 194 = .ok (.getfield 342, 3) := dk_180 1 86 (dk_at dksX4_tickGoes_8 8 rfl rfl)
theorem dX4_tickGoes_197 : decode cX4_tickGoes 197 = .ok (.aload_n 1, 1) := dk_43 (dk_at dksX4_tickGoes_8 11 rfl rfl)
theorem dX4_tickGoes_198 : decode cX4_tickGoes 198 = .ok (.invokestatic 332, 3) := dk_184 1 76 (dk_at dksX4_tickGoes_8 12 rfl rfl)
theorem dX4_tickGoes_201 : decode cX4_tickGoes 201 = .ok (.iload_n 3, 1) := dk_29 (dk_at dksX4_tickGoes_8 15 rfl rfl)
theorem dX4_tickGoes_202 : decode cX4_tickGoes 202 = .ok (.isub, 1) := dk_100 (dk_at dksX4_tickGoes_8 16 rfl rfl)
theorem dX4_tickGoes_203 : decode cX4_tickGoes 203 = .ok (.iadd, 1) := dk_96 (dk_at dksX4_tickGoes_8 17 rfl rfl)
theorem dX4_tickGoes_204 : decode cX4_tickGoes 204 = .ok (.putfield 342, 3) := dk_181 1 86 (dk_at dksX4_tickGoes_8 18 rfl rfl)
theorem dX4_tickGoes_207 : decode cX4_tickGoes 207 = .ok (.aload_n 1, 1) := dk_43 (dk_at dksX4_tickGoes_8 21 rfl rfl)
theorem dX4_tickGoes_208 : decode cX4_tickGoes 208 = .ok (.sipush 827, 3) := dk_17 3 59 (dk_at dksX4_tickGoes_9 0 rfl rfl)
theorem dX4_tickGoes_211 : decode cX4_tickGoes 211 = .ok (.dup2, 1) := dk_92 (dk_at dksX4_tickGoes_9 3 rfl rfl)
theorem dX4_tickGoes_212 : decode cX4_tickGoes 212 = .ok (.iaload, 1) := dk_46 (dk_at dksX4_tickGoes_9 4 rfl rfl)
theorem dX4_tickGoes_213 : decode cX4_tickGoes 213 = .ok (.iconst 1, 1) := dk_4 (dk_at dksX4_tickGoes_9 5 rfl rfl)
theorem dX4_tickGoes_214 : decode cX4_tickGoes 214 = .ok (.iadd, 1) := dk_96 (dk_at dksX4_tickGoes_9 6 rfl rfl)
theorem dX4_tickGoes_215 : decode cX4_tickGoes 215 = .ok (.iastore, 1) := dk_79 (dk_at dksX4_tickGoes_9 7 rfl rfl)
theorem dX4_tickGoes_216 : decode cX4_tickGoes 216 = .ok (.return_, 1) := dk_177 (dk_at dksX4_tickGoes_9 8 rfl rfl)
abbrev cX4_ends : ByteArray := prog_13_method_64_code
def yX4_ends : MethodName := ⟨RX4, "ends", "([II)V"⟩
def dkwX4_ends_9 : List UInt8 := [153, 0, 12, 43, 21, 8, 6, 96, 46, 167, 0, 4, 3, 184, 1, 31, 43, 28, 184, 1, 35, 177]
abbrev dktX4_ends_9 : List UInt8 := dkwX4_ends_9 ++ []
def dkwX4_ends_8 : List UInt8 := [46, 79, 43, 29, 43, 21, 8, 3, 96, 46, 21, 9, 153, 0, 7, 3, 167, 0, 4, 6, 21, 9]
abbrev dktX4_ends_8 : List UInt8 := dkwX4_ends_8 ++ dktX4_ends_9
def dkwX4_ends_7 : List UInt8 := [184, 1, 31, 21, 9, 153, 0, 21, 43, 17, 3, 60, 43, 21, 8, 5, 96, 46, 96, 43, 21, 8, 6, 96]
abbrev dktX4_ends_7 : List UInt8 := dkwX4_ends_7 ++ dktX4_ends_8
def dkwX4_ends_6 : List UInt8 := [167, 0, 4, 3, 54, 9, 43, 29, 21, 5, 21, 9, 153, 0, 7, 3, 167, 0, 4, 5, 43, 21, 6, 46]
abbrev dktX4_ends_6 : List UInt8 := dkwX4_ends_6 ++ dktX4_ends_7
def dkwX4_ends_5 : List UInt8 := [184, 0, 236, 16, 6, 96, 54, 8, 43, 21, 6, 46, 43, 21, 4, 6, 96, 46, 160, 0, 7, 4]
abbrev dktX4_ends_5 : List UInt8 := dkwX4_ends_5 ++ dktX4_ends_6
def dkwX4_ends_4 : List UInt8 := [167, 0, 130, 21, 7, 7, 160, 0, 15, 43, 29, 21, 5, 3, 3, 184, 1, 31, 167, 0, 112, 28]
abbrev dktX4_ends_4 : List UInt8 := dkwX4_ends_4 ++ dktX4_ends_5
def dkwX4_ends_3 : List UInt8 := [43, 21, 6, 43, 21, 4, 6, 96, 46, 79, 43, 29, 21, 5, 3, 43, 21, 4, 6, 96, 46, 184, 1, 31]
abbrev dktX4_ends_3 : List UInt8 := dkwX4_ends_3 ++ dktX4_ends_4
def dkwX4_ends_2 : List UInt8 := [154, 0, 18, 43, 29, 21, 5, 3, 43, 21, 6, 46, 184, 1, 31, 167, 0, 163, 21, 7, 4, 160, 0, 30]
abbrev dktX4_ends_2 : List UInt8 := dkwX4_ends_2 ++ dktX4_ends_3
def dkwX4_ends_1 : List UInt8 := [54, 5, 17, 3, 60, 43, 21, 4, 5, 96, 46, 96, 54, 6, 43, 21, 4, 4, 96, 46, 54, 7, 21, 7]
abbrev dktX4_ends_1 : List UInt8 := dkwX4_ends_1 ++ dktX4_ends_2
def dkwX4_ends_0 : List UInt8 := [43, 28, 184, 0, 236, 3, 96, 46, 62, 28, 184, 0, 236, 4, 96, 54, 4, 43, 21, 4, 3, 96, 46]
abbrev dktX4_ends_0 : List UInt8 := dkwX4_ends_0 ++ dktX4_ends_1
theorem dksX4_ends_0 : cX4_ends.data.toList.drop 0 = dktX4_ends_0 := by decide +kernel
theorem dksX4_ends_1 : cX4_ends.data.toList.drop 23 = dktX4_ends_1 := dk_seg dksX4_ends_0 23 rfl rfl
theorem dksX4_ends_2 : cX4_ends.data.toList.drop 47 = dktX4_ends_2 := dk_seg dksX4_ends_1 24 rfl rfl
theorem dksX4_ends_3 : cX4_ends.data.toList.drop 71 = dktX4_ends_3 := dk_seg dksX4_ends_2 24 rfl rfl
theorem dksX4_ends_4 : cX4_ends.data.toList.drop 95 = dktX4_ends_4 := dk_seg dksX4_ends_3 24 rfl rfl
theorem dksX4_ends_5 : cX4_ends.data.toList.drop 117 = dktX4_ends_5 := dk_seg dksX4_ends_4 22 rfl rfl
theorem dksX4_ends_6 : cX4_ends.data.toList.drop 139 = dktX4_ends_6 := dk_seg dksX4_ends_5 22 rfl rfl
theorem dksX4_ends_7 : cX4_ends.data.toList.drop 163 = dktX4_ends_7 := dk_seg dksX4_ends_6 24 rfl rfl
theorem dksX4_ends_8 : cX4_ends.data.toList.drop 187 = dktX4_ends_8 := dk_seg dksX4_ends_7 24 rfl rfl
theorem dksX4_ends_9 : cX4_ends.data.toList.drop 209 = dktX4_ends_9 := dk_seg dksX4_ends_8 22 rfl rfl
theorem dX4_ends_0 : decode cX4_ends 0 = .ok (.aload_n 1, 1) := dk_43 (dk_at dksX4_ends_0 0 rfl rfl)
theorem dX4_ends_1 : decode cX4_ends 1 = .ok (.iload_n 2, 1) := dk_28 (dk_at dksX4_ends_0 1 rfl rfl)
theorem dX4_ends_2 : decode cX4_ends 2 = .ok (.invokestatic 236, 3) := dk_184 0 236 (dk_at dksX4_ends_0 2 rfl rfl)
theorem dX4_ends_5 : decode cX4_ends 5 = .ok (.iconst 0, 1) := dk_3 (dk_at dksX4_ends_0 5 rfl rfl)
theorem dX4_ends_6 : decode cX4_ends 6 = .ok (.iadd, 1) := dk_96 (dk_at dksX4_ends_0 6 rfl rfl)
theorem dX4_ends_7 : decode cX4_ends 7 = .ok (.iaload, 1) := dk_46 (dk_at dksX4_ends_0 7 rfl rfl)
theorem dX4_ends_8 : decode cX4_ends 8 = .ok (.istore_n 3, 1) := dk_62 (dk_at dksX4_ends_0 8 rfl rfl)
theorem dX4_ends_9 : decode cX4_ends 9 = .ok (.iload_n 2, 1) := dk_28 (dk_at dksX4_ends_0 9 rfl rfl)
theorem dX4_ends_10 : decode cX4_ends 10 = .ok (.invokestatic 236, 3) := dk_184 0 236 (dk_at dksX4_ends_0 10 rfl rfl)
theorem dX4_ends_13 : decode cX4_ends 13 = .ok (.iconst 1, 1) := dk_4 (dk_at dksX4_ends_0 13 rfl rfl)
theorem dX4_ends_14 : decode cX4_ends 14 = .ok (.iadd, 1) := dk_96 (dk_at dksX4_ends_0 14 rfl rfl)
theorem dX4_ends_15 : decode cX4_ends 15 = .ok (.istore 4, 2) := dk_54 4 (dk_at dksX4_ends_0 15 rfl rfl)
theorem dX4_ends_17 : decode cX4_ends 17 = .ok (.aload_n 1, 1) := dk_43 (dk_at dksX4_ends_0 17 rfl rfl)
theorem dX4_ends_18 : decode cX4_ends 18 = .ok (.iload 4, 2) := dk_21 4 (dk_at dksX4_ends_0 18 rfl rfl)
theorem dX4_ends_20 : decode cX4_ends 20 = .ok (.iconst 0, 1) := dk_3 (dk_at dksX4_ends_0 20 rfl rfl)
theorem dX4_ends_21 : decode cX4_ends 21 = .ok (.iadd, 1) := dk_96 (dk_at dksX4_ends_0 21 rfl rfl)
theorem dX4_ends_22 : decode cX4_ends 22 = .ok (.iaload, 1) := dk_46 (dk_at dksX4_ends_0 22 rfl rfl)
theorem dX4_ends_23 : decode cX4_ends 23 = .ok (.istore 5, 2) := dk_54 5 (dk_at dksX4_ends_1 0 rfl rfl)
theorem dX4_ends_25 : decode cX4_ends 25 = .ok (.sipush 828, 3) := dk_17 3 60 (dk_at dksX4_ends_1 2 rfl rfl)
theorem dX4_ends_28 : decode cX4_ends 28 = .ok (.aload_n 1, 1) := dk_43 (dk_at dksX4_ends_1 5 rfl rfl)
theorem dX4_ends_29 : decode cX4_ends 29 = .ok (.iload 4, 2) := dk_21 4 (dk_at dksX4_ends_1 6 rfl rfl)
theorem dX4_ends_31 : decode cX4_ends 31 = .ok (.iconst 2, 1) := dk_5 (dk_at dksX4_ends_1 8 rfl rfl)
theorem dX4_ends_32 : decode cX4_ends 32 = .ok (.iadd, 1) := dk_96 (dk_at dksX4_ends_1 9 rfl rfl)
theorem dX4_ends_33 : decode cX4_ends 33 = .ok (.iaload, 1) := dk_46 (dk_at dksX4_ends_1 10 rfl rfl)
theorem dX4_ends_34 : decode cX4_ends 34 = .ok (.iadd, 1) := dk_96 (dk_at dksX4_ends_1 11 rfl rfl)
theorem dX4_ends_35 : decode cX4_ends 35 = .ok (.istore 6, 2) := dk_54 6 (dk_at dksX4_ends_1 12 rfl rfl)
theorem dX4_ends_37 : decode cX4_ends 37 = .ok (.aload_n 1, 1) := dk_43 (dk_at dksX4_ends_1 14 rfl rfl)
theorem dX4_ends_38 : decode cX4_ends 38 = .ok (.iload 4, 2) := dk_21 4 (dk_at dksX4_ends_1 15 rfl rfl)
theorem dX4_ends_40 : decode cX4_ends 40 = .ok (.iconst 1, 1) := dk_4 (dk_at dksX4_ends_1 17 rfl rfl)
theorem dX4_ends_41 : decode cX4_ends 41 = .ok (.iadd, 1) := dk_96 (dk_at dksX4_ends_1 18 rfl rfl)
theorem dX4_ends_42 : decode cX4_ends 42 = .ok (.iaload, 1) := dk_46 (dk_at dksX4_ends_1 19 rfl rfl)
theorem dX4_ends_43 : decode cX4_ends 43 = .ok (.istore 7, 2) := dk_54 7 (dk_at dksX4_ends_1 20 rfl rfl)
theorem dX4_ends_45 : decode cX4_ends 45 = .ok (.iload 7, 2) := dk_21 7 (dk_at dksX4_ends_1 22 rfl rfl)
theorem dX4_ends_47 : decode cX4_ends 47 = .ok (.ifCond .ne 18, 3) := dk_154 0 18 (dk_at dksX4_ends_2 0 rfl rfl)
theorem dX4_ends_50 : decode cX4_ends 50 = .ok (.aload_n 1, 1) := dk_43 (dk_at dksX4_ends_2 3 rfl rfl)
theorem dX4_ends_51 : decode cX4_ends 51 = .ok (.iload_n 3, 1) := dk_29 (dk_at dksX4_ends_2 4 rfl rfl)
theorem dX4_ends_52 : decode cX4_ends 52 = .ok (.iload 5, 2) := dk_21 5 (dk_at dksX4_ends_2 5 rfl rfl)
theorem dX4_ends_54 : decode cX4_ends 54 = .ok (.iconst 0, 1) := dk_3 (dk_at dksX4_ends_2 7 rfl rfl)
theorem dX4_ends_55 : decode cX4_ends 55 = .ok (.aload_n 1, 1) := dk_43 (dk_at dksX4_ends_2 8 rfl rfl)
theorem dX4_ends_56 : decode cX4_ends 56 = .ok (.iload 6, 2) := dk_21 6 (dk_at dksX4_ends_2 9 rfl rfl)
theorem dX4_ends_58 : decode cX4_ends 58 = .ok (.iaload, 1) := dk_46 (dk_at dksX4_ends_2 11 rfl rfl)
theorem dX4_ends_59 : decode cX4_ends 59 = .ok (.invokestatic 287, 3) := dk_184 1 31 (dk_at dksX4_ends_2 12 rfl rfl)
theorem dX4_ends_62 : decode cX4_ends 62 = .ok (.goto 163, 3) := dk_167 0 163 (dk_at dksX4_ends_2 15 rfl rfl)
theorem dX4_ends_65 : decode cX4_ends 65 = .ok (.iload 7, 2) := dk_21 7 (dk_at dksX4_ends_2 18 rfl rfl)
theorem dX4_ends_67 : decode cX4_ends 67 = .ok (.iconst 1, 1) := dk_4 (dk_at dksX4_ends_2 20 rfl rfl)
theorem dX4_ends_68 : decode cX4_ends 68 = .ok (.if_icmp .ne 30, 3) := dk_160 0 30 (dk_at dksX4_ends_2 21 rfl rfl)
theorem dX4_ends_71 : decode cX4_ends 71 = .ok (.aload_n 1, 1) := dk_43 (dk_at dksX4_ends_3 0 rfl rfl)
theorem dX4_ends_72 : decode cX4_ends 72 = .ok (.iload 6, 2) := dk_21 6 (dk_at dksX4_ends_3 1 rfl rfl)
theorem dX4_ends_74 : decode cX4_ends 74 = .ok (.aload_n 1, 1) := dk_43 (dk_at dksX4_ends_3 3 rfl rfl)
theorem dX4_ends_75 : decode cX4_ends 75 = .ok (.iload 4, 2) := dk_21 4 (dk_at dksX4_ends_3 4 rfl rfl)
theorem dX4_ends_77 : decode cX4_ends 77 = .ok (.iconst 3, 1) := dk_6 (dk_at dksX4_ends_3 6 rfl rfl)
theorem dX4_ends_78 : decode cX4_ends 78 = .ok (.iadd, 1) := dk_96 (dk_at dksX4_ends_3 7 rfl rfl)
theorem dX4_ends_79 : decode cX4_ends 79 = .ok (.iaload, 1) := dk_46 (dk_at dksX4_ends_3 8 rfl rfl)
theorem dX4_ends_80 : decode cX4_ends 80 = .ok (.iastore, 1) := dk_79 (dk_at dksX4_ends_3 9 rfl rfl)
theorem dX4_ends_81 : decode cX4_ends 81 = .ok (.aload_n 1, 1) := dk_43 (dk_at dksX4_ends_3 10 rfl rfl)
theorem dX4_ends_82 : decode cX4_ends 82 = .ok (.iload_n 3, 1) := dk_29 (dk_at dksX4_ends_3 11 rfl rfl)
theorem dX4_ends_83 : decode cX4_ends 83 = .ok (.iload 5, 2) := dk_21 5 (dk_at dksX4_ends_3 12 rfl rfl)
theorem dX4_ends_85 : decode cX4_ends 85 = .ok (.iconst 0, 1) := dk_3 (dk_at dksX4_ends_3 14 rfl rfl)
theorem dX4_ends_86 : decode cX4_ends 86 = .ok (.aload_n 1, 1) := dk_43 (dk_at dksX4_ends_3 15 rfl rfl)
theorem dX4_ends_87 : decode cX4_ends 87 = .ok (.iload 4, 2) := dk_21 4 (dk_at dksX4_ends_3 16 rfl rfl)
theorem dX4_ends_89 : decode cX4_ends 89 = .ok (.iconst 3, 1) := dk_6 (dk_at dksX4_ends_3 18 rfl rfl)
theorem dX4_ends_90 : decode cX4_ends 90 = .ok (.iadd, 1) := dk_96 (dk_at dksX4_ends_3 19 rfl rfl)
theorem dX4_ends_91 : decode cX4_ends 91 = .ok (.iaload, 1) := dk_46 (dk_at dksX4_ends_3 20 rfl rfl)
theorem dX4_ends_92 : decode cX4_ends 92 = .ok (.invokestatic 287, 3) := dk_184 1 31 (dk_at dksX4_ends_3 21 rfl rfl)
theorem dX4_ends_95 : decode cX4_ends 95 = .ok (.goto 130, 3) := dk_167 0 130 (dk_at dksX4_ends_4 0 rfl rfl)
theorem dX4_ends_98 : decode cX4_ends 98 = .ok (.iload 7, 2) := dk_21 7 (dk_at dksX4_ends_4 3 rfl rfl)
theorem dX4_ends_100 : decode cX4_ends 100 = .ok (.iconst 4, 1) := dk_7 (dk_at dksX4_ends_4 5 rfl rfl)
theorem dX4_ends_101 : decode cX4_ends 101 = .ok (.if_icmp .ne 15, 3) := dk_160 0 15 (dk_at dksX4_ends_4 6 rfl rfl)
theorem dX4_ends_104 : decode cX4_ends 104 = .ok (.aload_n 1, 1) := dk_43 (dk_at dksX4_ends_4 9 rfl rfl)
theorem dX4_ends_105 : decode cX4_ends 105 = .ok (.iload_n 3, 1) := dk_29 (dk_at dksX4_ends_4 10 rfl rfl)
theorem dX4_ends_106 : decode cX4_ends 106 = .ok (.iload 5, 2) := dk_21 5 (dk_at dksX4_ends_4 11 rfl rfl)
theorem dX4_ends_108 : decode cX4_ends 108 = .ok (.iconst 0, 1) := dk_3 (dk_at dksX4_ends_4 13 rfl rfl)
theorem dX4_ends_109 : decode cX4_ends 109 = .ok (.iconst 0, 1) := dk_3 (dk_at dksX4_ends_4 14 rfl rfl)
theorem dX4_ends_110 : decode cX4_ends 110 = .ok (.invokestatic 287, 3) := dk_184 1 31 (dk_at dksX4_ends_4 15 rfl rfl)
theorem dX4_ends_113 : decode cX4_ends 113 = .ok (.goto 112, 3) := dk_167 0 112 (dk_at dksX4_ends_4 18 rfl rfl)
theorem dX4_ends_116 : decode cX4_ends 116 = .ok (.iload_n 2, 1) := dk_28 (dk_at dksX4_ends_4 21 rfl rfl)
theorem dX4_ends_117 : decode cX4_ends 117 = .ok (.invokestatic 236, 3) := dk_184 0 236 (dk_at dksX4_ends_5 0 rfl rfl)
theorem dX4_ends_120 : decode cX4_ends 120 = .ok (.bipush 6, 2) := dk_16 6 (dk_at dksX4_ends_5 3 rfl rfl)
theorem dX4_ends_122 : decode cX4_ends 122 = .ok (.iadd, 1) := dk_96 (dk_at dksX4_ends_5 5 rfl rfl)
theorem dX4_ends_123 : decode cX4_ends 123 = .ok (.istore 8, 2) := dk_54 8 (dk_at dksX4_ends_5 6 rfl rfl)
theorem dX4_ends_125 : decode cX4_ends 125 = .ok (.aload_n 1, 1) := dk_43 (dk_at dksX4_ends_5 8 rfl rfl)
theorem dX4_ends_126 : decode cX4_ends 126 = .ok (.iload 6, 2) := dk_21 6 (dk_at dksX4_ends_5 9 rfl rfl)
theorem dX4_ends_128 : decode cX4_ends 128 = .ok (.iaload, 1) := dk_46 (dk_at dksX4_ends_5 11 rfl rfl)
theorem dX4_ends_129 : decode cX4_ends 129 = .ok (.aload_n 1, 1) := dk_43 (dk_at dksX4_ends_5 12 rfl rfl)
theorem dX4_ends_130 : decode cX4_ends 130 = .ok (.iload 4, 2) := dk_21 4 (dk_at dksX4_ends_5 13 rfl rfl)
theorem dX4_ends_132 : decode cX4_ends 132 = .ok (.iconst 3, 1) := dk_6 (dk_at dksX4_ends_5 15 rfl rfl)
theorem dX4_ends_133 : decode cX4_ends 133 = .ok (.iadd, 1) := dk_96 (dk_at dksX4_ends_5 16 rfl rfl)
theorem dX4_ends_134 : decode cX4_ends 134 = .ok (.iaload, 1) := dk_46 (dk_at dksX4_ends_5 17 rfl rfl)
theorem dX4_ends_135 : decode cX4_ends 135 = .ok (.if_icmp .ne 7, 3) := dk_160 0 7 (dk_at dksX4_ends_5 18 rfl rfl)
theorem dX4_ends_138 : decode cX4_ends 138 = .ok (.iconst 1, 1) := dk_4 (dk_at dksX4_ends_5 21 rfl rfl)
theorem dX4_ends_139 : decode cX4_ends 139 = .ok (.goto 4, 3) := dk_167 0 4 (dk_at dksX4_ends_6 0 rfl rfl)
theorem dX4_ends_142 : decode cX4_ends 142 = .ok (.iconst 0, 1) := dk_3 (dk_at dksX4_ends_6 3 rfl rfl)
theorem dX4_ends_143 : decode cX4_ends 143 = .ok (.istore 9, 2) := dk_54 9 (dk_at dksX4_ends_6 4 rfl rfl)
theorem dX4_ends_145 : decode cX4_ends 145 = .ok (.aload_n 1, 1) := dk_43 (dk_at dksX4_ends_6 6 rfl rfl)
theorem dX4_ends_146 : decode cX4_ends 146 = .ok (.iload_n 3, 1) := dk_29 (dk_at dksX4_ends_6 7 rfl rfl)
theorem dX4_ends_147 : decode cX4_ends 147 = .ok (.iload 5, 2) := dk_21 5 (dk_at dksX4_ends_6 8 rfl rfl)
theorem dX4_ends_149 : decode cX4_ends 149 = .ok (.iload 9, 2) := dk_21 9 (dk_at dksX4_ends_6 10 rfl rfl)
theorem dX4_ends_151 : decode cX4_ends 151 = .ok (.ifCond .eq 7, 3) := dk_153 0 7 (dk_at dksX4_ends_6 12 rfl rfl)
theorem dX4_ends_154 : decode cX4_ends 154 = .ok (.iconst 0, 1) := dk_3 (dk_at dksX4_ends_6 15 rfl rfl)
theorem dX4_ends_155 : decode cX4_ends 155 = .ok (.goto 4, 3) := dk_167 0 4 (dk_at dksX4_ends_6 16 rfl rfl)
theorem dX4_ends_158 : decode cX4_ends 158 = .ok (.iconst 2, 1) := dk_5 (dk_at dksX4_ends_6 19 rfl rfl)
theorem dX4_ends_159 : decode cX4_ends 159 = .ok (.aload_n 1, 1) := dk_43 (dk_at dksX4_ends_6 20 rfl rfl)
theorem dX4_ends_160 : decode cX4_ends 160 = .ok (.iload 6, 2) := dk_21 6 (dk_at dksX4_ends_6 21 rfl rfl)
theorem dX4_ends_162 : decode cX4_ends 162 = .ok (.iaload, 1) := dk_46 (dk_at dksX4_ends_6 23 rfl rfl)
theorem dX4_ends_163 : decode cX4_ends 163 = .ok (.invokestatic 287, 3) := dk_184 1 31 (dk_at dksX4_ends_7 0 rfl rfl)
theorem dX4_ends_166 : decode cX4_ends 166 = .ok (.iload 9, 2) := dk_21 9 (dk_at dksX4_ends_7 3 rfl rfl)
theorem dX4_ends_168 : decode cX4_ends 168 = .ok (.ifCond .eq 21, 3) := dk_153 0 21 (dk_at dksX4_ends_7 5 rfl rfl)
theorem dX4_ends_171 : decode cX4_ends 171 = .ok (.aload_n 1, 1) := dk_43 (dk_at dksX4_ends_7 8 rfl rfl)
theorem dX4_ends_172 : decode cX4_ends 172 = .ok (.sipush 828, 3) := dk_17 3 60 (dk_at dksX4_ends_7 9 rfl rfl)
theorem dX4_ends_175 : decode cX4_ends 175 = .ok (.aload_n 1, 1) := dk_43 (dk_at dksX4_ends_7 12 rfl rfl)
theorem dX4_ends_176 : decode cX4_ends 176 = .ok (.iload 8, 2) := dk_21 8 (dk_at dksX4_ends_7 13 rfl rfl)
theorem dX4_ends_178 : decode cX4_ends 178 = .ok (.iconst 2, 1) := dk_5 (dk_at dksX4_ends_7 15 rfl rfl)
theorem dX4_ends_179 : decode cX4_ends 179 = .ok (.iadd, 1) := dk_96 (dk_at dksX4_ends_7 16 rfl rfl)
theorem dX4_ends_180 : decode cX4_ends 180 = .ok (.iaload, 1) := dk_46 (dk_at dksX4_ends_7 17 rfl rfl)
theorem dX4_ends_181 : decode cX4_ends 181 = .ok (.iadd, 1) := dk_96 (dk_at dksX4_ends_7 18 rfl rfl)
theorem dX4_ends_182 : decode cX4_ends 182 = .ok (.aload_n 1, 1) := dk_43 (dk_at dksX4_ends_7 19 rfl rfl)
theorem dX4_ends_183 : decode cX4_ends 183 = .ok (.iload 8, 2) := dk_21 8 (dk_at dksX4_ends_7 20 rfl rfl)
theorem dX4_ends_185 : decode cX4_ends 185 = .ok (.iconst 3, 1) := dk_6 (dk_at dksX4_ends_7 22 rfl rfl)
theorem dX4_ends_186 : decode cX4_ends 186 = .ok (.iadd, 1) := dk_96 (dk_at dksX4_ends_7 23 rfl rfl)
theorem dX4_ends_187 : decode cX4_ends 187 = .ok (.iaload, 1) := dk_46 (dk_at dksX4_ends_8 0 rfl rfl)
theorem dX4_ends_188 : decode cX4_ends 188 = .ok (.iastore, 1) := dk_79 (dk_at dksX4_ends_8 1 rfl rfl)
theorem dX4_ends_189 : decode cX4_ends 189 = .ok (.aload_n 1, 1) := dk_43 (dk_at dksX4_ends_8 2 rfl rfl)
theorem dX4_ends_190 : decode cX4_ends 190 = .ok (.iload_n 3, 1) := dk_29 (dk_at dksX4_ends_8 3 rfl rfl)
theorem dX4_ends_191 : decode cX4_ends 191 = .ok (.aload_n 1, 1) := dk_43 (dk_at dksX4_ends_8 4 rfl rfl)
theorem dX4_ends_192 : decode cX4_ends 192 = .ok (.iload 8, 2) := dk_21 8 (dk_at dksX4_ends_8 5 rfl rfl)
theorem dX4_ends_194 : decode cX4_ends 194 = .ok (.iconst 0, 1) := dk_3 (dk_at dksX4_ends_8 7 rfl rfl)
theorem dX4_ends_195 : decode cX4_ends 195 = .ok (.iadd, 1) := dk_96 (dk_at dksX4_ends_8 8 rfl rfl)
theorem dX4_ends_196 : decode cX4_ends 196 = .ok (.iaload, 1) := dk_46 (dk_at dksX4_ends_8 9 rfl rfl)
theorem dX4_ends_197 : decode cX4_ends 197 = .ok (.iload 9, 2) := dk_21 9 (dk_at dksX4_ends_8 10 rfl rfl)
theorem dX4_ends_199 : decode cX4_ends 199 = .ok (.ifCond .eq 7, 3) := dk_153 0 7 (dk_at dksX4_ends_8 12 rfl rfl)
theorem dX4_ends_202 : decode cX4_ends 202 = .ok (.iconst 0, 1) := dk_3 (dk_at dksX4_ends_8 15 rfl rfl)
theorem dX4_ends_203 : decode cX4_ends 203 = .ok (.goto 4, 3) := dk_167 0 4 (dk_at dksX4_ends_8 16 rfl rfl)
theorem dX4_ends_206 : decode cX4_ends 206 = .ok (.iconst 3, 1) := dk_6 (dk_at dksX4_ends_8 19 rfl rfl)
theorem dX4_ends_207 : decode cX4_ends 207 = .ok (.iload 9, 2) := dk_21 9 (dk_at dksX4_ends_8 20 rfl rfl)
theorem dX4_ends_209 : decode cX4_ends 209 = .ok (.ifCond .eq 12, 3) := dk_153 0 12 (dk_at dksX4_ends_9 0 rfl rfl)
theorem dX4_ends_212 : decode cX4_ends 212 = .ok (.aload_n 1, 1) := dk_43 (dk_at dksX4_ends_9 3 rfl rfl)
theorem dX4_ends_213 : decode cX4_ends 213 = .ok (.iload 8, 2) := dk_21 8 (dk_at dksX4_ends_9 4 rfl rfl)
theorem dX4_ends_215 : decode cX4_ends 215 = .ok (.iconst 3, 1) := dk_6 (dk_at dksX4_ends_9 6 rfl rfl)
theorem dX4_ends_216 : decode cX4_ends 216 = .ok (.iadd, 1) := dk_96 (dk_at dksX4_ends_9 7 rfl rfl)
theorem dX4_ends_217 : decode cX4_ends 217 = .ok (.iaload, 1) := dk_46 (dk_at dksX4_ends_9 8 rfl rfl)
theorem dX4_ends_218 : decode cX4_ends 218 = .ok (.goto 4, 3) := dk_167 0 4 (dk_at dksX4_ends_9 9 rfl rfl)
theorem dX4_ends_221 : decode cX4_ends 221 = .ok (.iconst 0, 1) := dk_3 (dk_at dksX4_ends_9 12 rfl rfl)
theorem dX4_ends_222 : decode cX4_ends 222 = .ok (.invokestatic 287, 3) := dk_184 1 31 (dk_at dksX4_ends_9 13 rfl rfl)
theorem dX4_ends_225 : decode cX4_ends 225 = .ok (.aload_n 1, 1) := dk_43 (dk_at dksX4_ends_9 16 rfl rfl)
theorem dX4_ends_226 : decode cX4_ends 226 = .ok (.iload_n 2, 1) := dk_28 (dk_at dksX4_ends_9 17 rfl rfl)
theorem dX4_ends_227 : decode cX4_ends 227 = .ok (.invokestatic 291, 3) := dk_184 1 35 (dk_at dksX4_ends_9 18 rfl rfl)
theorem dX4_ends_230 : decode cX4_ends 230 = .ok (.return_, 1) := dk_177 (dk_at dksX4_ends_9 21 rfl rfl)
abbrev cX4_comesOut : ByteArray := prog_13_method_47_code
def yX4_comesOut : MethodName := ⟨RX4, "comesOut", "([IIIII)V"⟩
def dkwX4_comesOut_2 : List UInt8 := [177]
abbrev dktX4_comesOut_2 : List UInt8 := dkwX4_comesOut_2 ++ []
def dkwX4_comesOut_1 : List UInt8 := [42, 21, 5, 5, 96, 29, 79, 42, 21, 5, 6, 96, 21, 4, 79, 42, 17, 3, 46, 92, 46, 4, 96, 79]
abbrev dktX4_comesOut_1 : List UInt8 := dkwX4_comesOut_1 ++ dktX4_comesOut_2
def dkwX4_comesOut_0 : List UInt8 := [42, 17, 3, 46, 46, 184, 0, 246, 54, 5, 42, 21, 5, 3, 96, 27, 79, 42, 21, 5, 4, 96, 28, 79]
abbrev dktX4_comesOut_0 : List UInt8 := dkwX4_comesOut_0 ++ dktX4_comesOut_1
theorem dksX4_comesOut_0 : cX4_comesOut.data.toList.drop 0 = dktX4_comesOut_0 := by decide +kernel
theorem dksX4_comesOut_1 : cX4_comesOut.data.toList.drop 24 = dktX4_comesOut_1 := dk_seg dksX4_comesOut_0 24 rfl rfl
theorem dksX4_comesOut_2 : cX4_comesOut.data.toList.drop 48 = dktX4_comesOut_2 := dk_seg dksX4_comesOut_1 24 rfl rfl
theorem dX4_comesOut_0 : decode cX4_comesOut 0 = .ok (.aload_n 0, 1) := dk_42 (dk_at dksX4_comesOut_0 0 rfl rfl)
theorem dX4_comesOut_1 : decode cX4_comesOut 1 = .ok (.sipush 814, 3) := dk_17 3 46 (dk_at dksX4_comesOut_0 1 rfl rfl)
theorem dX4_comesOut_4 : decode cX4_comesOut 4 = .ok (.iaload, 1) := dk_46 (dk_at dksX4_comesOut_0 4 rfl rfl)
theorem dX4_comesOut_5 : decode cX4_comesOut 5 = .ok (.invokestatic 246, 3) := dk_184 0 246 (dk_at dksX4_comesOut_0 5 rfl rfl)
theorem dX4_comesOut_8 : decode cX4_comesOut 8 = .ok (.istore 5, 2) := dk_54 5 (dk_at dksX4_comesOut_0 8 rfl rfl)
theorem dX4_comesOut_10 : decode cX4_comesOut 10 = .ok (.aload_n 0, 1) := dk_42 (dk_at dksX4_comesOut_0 10 rfl rfl)
theorem dX4_comesOut_11 : decode cX4_comesOut 11 = .ok (.iload 5, 2) := dk_21 5 (dk_at dksX4_comesOut_0 11 rfl rfl)
theorem dX4_comesOut_13 : decode cX4_comesOut 13 = .ok (.iconst 0, 1) := dk_3 (dk_at dksX4_comesOut_0 13 rfl rfl)
theorem dX4_comesOut_14 : decode cX4_comesOut 14 = .ok (.iadd, 1) := dk_96 (dk_at dksX4_comesOut_0 14 rfl rfl)
theorem dX4_comesOut_15 : decode cX4_comesOut 15 = .ok (.iload_n 1, 1) := dk_27 (dk_at dksX4_comesOut_0 15 rfl rfl)
theorem dX4_comesOut_16 : decode cX4_comesOut 16 = .ok (.iastore, 1) := dk_79 (dk_at dksX4_comesOut_0 16 rfl rfl)
theorem dX4_comesOut_17 : decode cX4_comesOut 17 = .ok (.aload_n 0, 1) := dk_42 (dk_at dksX4_comesOut_0 17 rfl rfl)
theorem dX4_comesOut_18 : decode cX4_comesOut 18 = .ok (.iload 5, 2) := dk_21 5 (dk_at dksX4_comesOut_0 18 rfl rfl)
theorem dX4_comesOut_20 : decode cX4_comesOut 20 = .ok (.iconst 1, 1) := dk_4 (dk_at dksX4_comesOut_0 20 rfl rfl)
theorem dX4_comesOut_21 : decode cX4_comesOut 21 = .ok (.iadd, 1) := dk_96 (dk_at dksX4_comesOut_0 21 rfl rfl)
theorem dX4_comesOut_22 : decode cX4_comesOut 22 = .ok (.iload_n 2, 1) := dk_28 (dk_at dksX4_comesOut_0 22 rfl rfl)
theorem dX4_comesOut_23 : decode cX4_comesOut 23 = .ok (.iastore, 1) := dk_79 (dk_at dksX4_comesOut_0 23 rfl rfl)
theorem dX4_comesOut_24 : decode cX4_comesOut 24 = .ok (.aload_n 0, 1) := dk_42 (dk_at dksX4_comesOut_1 0 rfl rfl)
theorem dX4_comesOut_25 : decode cX4_comesOut 25 = .ok (.iload 5, 2) := dk_21 5 (dk_at dksX4_comesOut_1 1 rfl rfl)
theorem dX4_comesOut_27 : decode cX4_comesOut 27 = .ok (.iconst 2, 1) := dk_5 (dk_at dksX4_comesOut_1 3 rfl rfl)
theorem dX4_comesOut_28 : decode cX4_comesOut 28 = .ok (.iadd, 1) := dk_96 (dk_at dksX4_comesOut_1 4 rfl rfl)
theorem dX4_comesOut_29 : decode cX4_comesOut 29 = .ok (.iload_n 3, 1) := dk_29 (dk_at dksX4_comesOut_1 5 rfl rfl)
theorem dX4_comesOut_30 : decode cX4_comesOut 30 = .ok (.iastore, 1) := dk_79 (dk_at dksX4_comesOut_1 6 rfl rfl)
theorem dX4_comesOut_31 : decode cX4_comesOut 31 = .ok (.aload_n 0, 1) := dk_42 (dk_at dksX4_comesOut_1 7 rfl rfl)
theorem dX4_comesOut_32 : decode cX4_comesOut 32 = .ok (.iload 5, 2) := dk_21 5 (dk_at dksX4_comesOut_1 8 rfl rfl)
theorem dX4_comesOut_34 : decode cX4_comesOut 34 = .ok (.iconst 3, 1) := dk_6 (dk_at dksX4_comesOut_1 10 rfl rfl)
theorem dX4_comesOut_35 : decode cX4_comesOut 35 = .ok (.iadd, 1) := dk_96 (dk_at dksX4_comesOut_1 11 rfl rfl)
theorem dX4_comesOut_36 : decode cX4_comesOut 36 = .ok (.iload 4, 2) := dk_21 4 (dk_at dksX4_comesOut_1 12 rfl rfl)
theorem dX4_comesOut_38 : decode cX4_comesOut 38 = .ok (.iastore, 1) := dk_79 (dk_at dksX4_comesOut_1 14 rfl rfl)
theorem dX4_comesOut_39 : decode cX4_comesOut 39 = .ok (.aload_n 0, 1) := dk_42 (dk_at dksX4_comesOut_1 15 rfl rfl)
theorem dX4_comesOut_40 : decode cX4_comesOut 40 = .ok (.sipush 814, 3) := dk_17 3 46 (dk_at dksX4_comesOut_1 16 rfl rfl)
theorem dX4_comesOut_43 : decode cX4_comesOut 43 = .ok (.dup2, 1) := dk_92 (dk_at dksX4_comesOut_1 19 rfl rfl)
theorem dX4_comesOut_44 : decode cX4_comesOut 44 = .ok (.iaload, 1) := dk_46 (dk_at dksX4_comesOut_1 20 rfl rfl)
theorem dX4_comesOut_45 : decode cX4_comesOut 45 = .ok (.iconst 1, 1) := dk_4 (dk_at dksX4_comesOut_1 21 rfl rfl)
theorem dX4_comesOut_46 : decode cX4_comesOut 46 = .ok (.iadd, 1) := dk_96 (dk_at dksX4_comesOut_1 22 rfl rfl)
theorem dX4_comesOut_47 : decode cX4_comesOut 47 = .ok (.iastore, 1) := dk_79 (dk_at dksX4_comesOut_1 23 rfl rfl)
theorem dX4_comesOut_48 : decode cX4_comesOut 48 = .ok (.return_, 1) := dk_177 (dk_at dksX4_comesOut_2 0 rfl rfl)
abbrev cX4_runGoes : ByteArray := prog_13_method_48_code
def yX4_runGoes : MethodName := ⟨RX4, "runGoes", "([II)V"⟩
def dkwX4_runGoes_1 : List UInt8 := [162, 0, 18, 42, 28, 42, 28, 16, 12, 96, 46, 79, 132, 2, 1, 167, 255, 232, 177]
abbrev dktX4_runGoes_1 : List UInt8 := dkwX4_runGoes_1 ++ []
def dkwX4_runGoes_0 : List UInt8 := [42, 17, 1, 237, 92, 46, 4, 100, 79, 27, 184, 0, 236, 61, 28, 42, 17, 1, 237, 46, 184, 0, 236]
abbrev dktX4_runGoes_0 : List UInt8 := dkwX4_runGoes_0 ++ dktX4_runGoes_1
theorem dksX4_runGoes_0 : cX4_runGoes.data.toList.drop 0 = dktX4_runGoes_0 := by decide +kernel
theorem dksX4_runGoes_1 : cX4_runGoes.data.toList.drop 23 = dktX4_runGoes_1 := dk_seg dksX4_runGoes_0 23 rfl rfl
theorem dX4_runGoes_0 : decode cX4_runGoes 0 = .ok (.aload_n 0, 1) := dk_42 (dk_at dksX4_runGoes_0 0 rfl rfl)
theorem dX4_runGoes_1 : decode cX4_runGoes 1 = .ok (.sipush 493, 3) := dk_17 1 237 (dk_at dksX4_runGoes_0 1 rfl rfl)
theorem dX4_runGoes_4 : decode cX4_runGoes 4 = .ok (.dup2, 1) := dk_92 (dk_at dksX4_runGoes_0 4 rfl rfl)
theorem dX4_runGoes_5 : decode cX4_runGoes 5 = .ok (.iaload, 1) := dk_46 (dk_at dksX4_runGoes_0 5 rfl rfl)
theorem dX4_runGoes_6 : decode cX4_runGoes 6 = .ok (.iconst 1, 1) := dk_4 (dk_at dksX4_runGoes_0 6 rfl rfl)
theorem dX4_runGoes_7 : decode cX4_runGoes 7 = .ok (.isub, 1) := dk_100 (dk_at dksX4_runGoes_0 7 rfl rfl)
theorem dX4_runGoes_8 : decode cX4_runGoes 8 = .ok (.iastore, 1) := dk_79 (dk_at dksX4_runGoes_0 8 rfl rfl)
theorem dX4_runGoes_9 : decode cX4_runGoes 9 = .ok (.iload_n 1, 1) := dk_27 (dk_at dksX4_runGoes_0 9 rfl rfl)
theorem dX4_runGoes_10 : decode cX4_runGoes 10 = .ok (.invokestatic 236, 3) := dk_184 0 236 (dk_at dksX4_runGoes_0 10 rfl rfl)
theorem dX4_runGoes_13 : decode cX4_runGoes 13 = .ok (.istore_n 2, 1) := dk_61 (dk_at dksX4_runGoes_0 13 rfl rfl)
theorem dX4_runGoes_14 : decode cX4_runGoes 14 = .ok (.iload_n 2, 1) := dk_28 (dk_at dksX4_runGoes_0 14 rfl rfl)
theorem dX4_runGoes_15 : decode cX4_runGoes 15 = .ok (.aload_n 0, 1) := dk_42 (dk_at dksX4_runGoes_0 15 rfl rfl)
theorem dX4_runGoes_16 : decode cX4_runGoes 16 = .ok (.sipush 493, 3) := dk_17 1 237 (dk_at dksX4_runGoes_0 16 rfl rfl)
theorem dX4_runGoes_19 : decode cX4_runGoes 19 = .ok (.iaload, 1) := dk_46 (dk_at dksX4_runGoes_0 19 rfl rfl)
theorem dX4_runGoes_20 : decode cX4_runGoes 20 = .ok (.invokestatic 236, 3) := dk_184 0 236 (dk_at dksX4_runGoes_0 20 rfl rfl)
theorem dX4_runGoes_23 : decode cX4_runGoes 23 = .ok (.if_icmp .ge 18, 3) := dk_162 0 18 (dk_at dksX4_runGoes_1 0 rfl rfl)
theorem dX4_runGoes_26 : decode cX4_runGoes 26 = .ok (.aload_n 0, 1) := dk_42 (dk_at dksX4_runGoes_1 3 rfl rfl)
theorem dX4_runGoes_27 : decode cX4_runGoes 27 = .ok (.iload_n 2, 1) := dk_28 (dk_at dksX4_runGoes_1 4 rfl rfl)
theorem dX4_runGoes_28 : decode cX4_runGoes 28 = .ok (.aload_n 0, 1) := dk_42 (dk_at dksX4_runGoes_1 5 rfl rfl)
theorem dX4_runGoes_29 : decode cX4_runGoes 29 = .ok (.iload_n 2, 1) := dk_28 (dk_at dksX4_runGoes_1 6 rfl rfl)
theorem dX4_runGoes_30 : decode cX4_runGoes 30 = .ok (.bipush 12, 2) := dk_16 12 (dk_at dksX4_runGoes_1 7 rfl rfl)
theorem dX4_runGoes_32 : decode cX4_runGoes 32 = .ok (.iadd, 1) := dk_96 (dk_at dksX4_runGoes_1 9 rfl rfl)
theorem dX4_runGoes_33 : decode cX4_runGoes 33 = .ok (.iaload, 1) := dk_46 (dk_at dksX4_runGoes_1 10 rfl rfl)
theorem dX4_runGoes_34 : decode cX4_runGoes 34 = .ok (.iastore, 1) := dk_79 (dk_at dksX4_runGoes_1 11 rfl rfl)
theorem dX4_runGoes_35 : decode cX4_runGoes 35 = .ok (.iinc 2 1, 3) := dk_132 2 1 (dk_at dksX4_runGoes_1 12 rfl rfl)
theorem dX4_runGoes_38 : decode cX4_runGoes 38 = .ok (.goto (-24), 3) := dk_167 255 232 (dk_at dksX4_runGoes_1 15 rfl rfl)
theorem dX4_runGoes_41 : decode cX4_runGoes 41 = .ok (.return_, 1) := dk_177 (dk_at dksX4_runGoes_1 18 rfl rfl)
abbrev cX4_posts : ByteArray := prog_13_method_66_code
def yX4_posts : MethodName := ⟨RX4, "posts", "([I)V"⟩
def dkwX4_posts_7 : List UInt8 := [167, 0, 6, 132, 2, 1, 167, 255, 87, 177]
abbrev dktX4_posts_7 : List UInt8 := dkwX4_posts_7 ++ []
def dkwX4_posts_6 : List UInt8 := [8, 21, 5, 4, 96, 184, 1, 22, 43, 28, 184, 1, 63, 42, 89, 180, 1, 66, 4, 96, 181, 1, 66]
abbrev dktX4_posts_6 : List UInt8 := dkwX4_posts_6 ++ dktX4_posts_7
def dkwX4_posts_5 : List UInt8 := [180, 0, 137, 21, 4, 46, 108, 5, 112, 154, 0, 7, 4, 167, 0, 4, 3, 184, 0, 40, 79, 43, 21, 4]
abbrev dktX4_posts_5 : List UInt8 := dkwX4_posts_5 ++ dktX4_posts_6
def dkwX4_posts_4 : List UInt8 := [46, 79, 43, 21, 6, 6, 96, 43, 21, 4, 6, 184, 0, 220, 79, 43, 21, 6, 7, 96, 21, 5, 42]
abbrev dktX4_posts_4 : List UInt8 := dkwX4_posts_4 ++ dktX4_posts_5
def dkwX4_posts_3 : List UInt8 := [4, 96, 46, 79, 43, 21, 6, 4, 96, 43, 29, 5, 96, 46, 79, 43, 21, 6, 5, 96, 43, 29, 6, 96]
abbrev dktX4_posts_3 : List UInt8 := dkwX4_posts_3 ++ dktX4_posts_4
def dkwX4_posts_2 : List UInt8 := [21, 4, 46, 4, 100, 162, 0, 116, 21, 4, 21, 5, 184, 0, 249, 54, 6, 43, 21, 6, 3, 96, 43, 29]
abbrev dktX4_posts_2 : List UInt8 := dkwX4_posts_2 ++ dktX4_posts_3
def dkwX4_posts_1 : List UInt8 := [21, 4, 8, 184, 0, 220, 54, 5, 21, 5, 43, 21, 4, 16, 6, 184, 0, 220, 100, 42, 180, 0, 137]
abbrev dktX4_posts_1 : List UInt8 := dkwX4_posts_1 ++ dktX4_posts_2
def dkwX4_posts_0 : List UInt8 := [3, 61, 28, 43, 17, 3, 46, 46, 162, 0, 166, 28, 184, 0, 246, 62, 43, 29, 3, 96, 46, 54, 4, 43]
abbrev dktX4_posts_0 : List UInt8 := dkwX4_posts_0 ++ dktX4_posts_1
theorem dksX4_posts_0 : cX4_posts.data.toList.drop 0 = dktX4_posts_0 := by decide +kernel
theorem dksX4_posts_1 : cX4_posts.data.toList.drop 24 = dktX4_posts_1 := dk_seg dksX4_posts_0 24 rfl rfl
theorem dksX4_posts_2 : cX4_posts.data.toList.drop 47 = dktX4_posts_2 := dk_seg dksX4_posts_1 23 rfl rfl
theorem dksX4_posts_3 : cX4_posts.data.toList.drop 71 = dktX4_posts_3 := dk_seg dksX4_posts_2 24 rfl rfl
theorem dksX4_posts_4 : cX4_posts.data.toList.drop 95 = dktX4_posts_4 := dk_seg dksX4_posts_3 24 rfl rfl
theorem dksX4_posts_5 : cX4_posts.data.toList.drop 118 = dktX4_posts_5 := dk_seg dksX4_posts_4 23 rfl rfl
theorem dksX4_posts_6 : cX4_posts.data.toList.drop 142 = dktX4_posts_6 := dk_seg dksX4_posts_5 24 rfl rfl
theorem dksX4_posts_7 : cX4_posts.data.toList.drop 165 = dktX4_posts_7 := dk_seg dksX4_posts_6 23 rfl rfl
theorem dX4_posts_0 : decode cX4_posts 0 = .ok (.iconst 0, 1) := dk_3 (dk_at dksX4_posts_0 0 rfl rfl)
theorem dX4_posts_1 : decode cX4_posts 1 = .ok (.istore_n 2, 1) := dk_61 (dk_at dksX4_posts_0 1 rfl rfl)
theorem dX4_posts_2 : decode cX4_posts 2 = .ok (.iload_n 2, 1) := dk_28 (dk_at dksX4_posts_0 2 rfl rfl)
theorem dX4_posts_3 : decode cX4_posts 3 = .ok (.aload_n 1, 1) := dk_43 (dk_at dksX4_posts_0 3 rfl rfl)
theorem dX4_posts_4 : decode cX4_posts 4 = .ok (.sipush 814, 3) := dk_17 3 46 (dk_at dksX4_posts_0 4 rfl rfl)
theorem dX4_posts_7 : decode cX4_posts 7 = .ok (.iaload, 1) := dk_46 (dk_at dksX4_posts_0 7 rfl rfl)
theorem dX4_posts_8 : decode cX4_posts 8 = .ok (.if_icmp .ge 166, 3) := dk_162 0 166 (dk_at dksX4_posts_0 8 rfl rfl)
theorem dX4_posts_11 : decode cX4_posts 11 = .ok (.iload_n 2, 1) := dk_28 (dk_at dksX4_posts_0 11 rfl rfl)
theorem dX4_posts_12 : decode cX4_posts 12 = .ok (.invokestatic 246, 3) := dk_184 0 246 (dk_at dksX4_posts_0 12 rfl rfl)
theorem dX4_posts_15 : decode cX4_posts 15 = .ok (.istore_n 3, 1) := dk_62 (dk_at dksX4_posts_0 15 rfl rfl)
theorem dX4_posts_16 : decode cX4_posts 16 = .ok (.aload_n 1, 1) := dk_43 (dk_at dksX4_posts_0 16 rfl rfl)
theorem dX4_posts_17 : decode cX4_posts 17 = .ok (.iload_n 3, 1) := dk_29 (dk_at dksX4_posts_0 17 rfl rfl)
theorem dX4_posts_18 : decode cX4_posts 18 = .ok (.iconst 0, 1) := dk_3 (dk_at dksX4_posts_0 18 rfl rfl)
theorem dX4_posts_19 : decode cX4_posts 19 = .ok (.iadd, 1) := dk_96 (dk_at dksX4_posts_0 19 rfl rfl)
theorem dX4_posts_20 : decode cX4_posts 20 = .ok (.iaload, 1) := dk_46 (dk_at dksX4_posts_0 20 rfl rfl)
theorem dX4_posts_21 : decode cX4_posts 21 = .ok (.istore 4, 2) := dk_54 4 (dk_at dksX4_posts_0 21 rfl rfl)
theorem dX4_posts_23 : decode cX4_posts 23 = .ok (.aload_n 1, 1) := dk_43 (dk_at dksX4_posts_0 23 rfl rfl)
theorem dX4_posts_24 : decode cX4_posts 24 = .ok (.iload 4, 2) := dk_21 4 (dk_at dksX4_posts_1 0 rfl rfl)
theorem dX4_posts_26 : decode cX4_posts 26 = .ok (.iconst 5, 1) := dk_8 (dk_at dksX4_posts_1 2 rfl rfl)
theorem dX4_posts_27 : decode cX4_posts 27 = .ok (.invokestatic 220, 3) := dk_184 0 220 (dk_at dksX4_posts_1 3 rfl rfl)
theorem dX4_posts_30 : decode cX4_posts 30 = .ok (.istore 5, 2) := dk_54 5 (dk_at dksX4_posts_1 6 rfl rfl)
theorem dX4_posts_32 : decode cX4_posts 32 = .ok (.iload 5, 2) := dk_21 5 (dk_at dksX4_posts_1 8 rfl rfl)
theorem dX4_posts_34 : decode cX4_posts 34 = .ok (.aload_n 1, 1) := dk_43 (dk_at dksX4_posts_1 10 rfl rfl)
theorem dX4_posts_35 : decode cX4_posts 35 = .ok (.iload 4, 2) := dk_21 4 (dk_at dksX4_posts_1 11 rfl rfl)
theorem dX4_posts_37 : decode cX4_posts 37 = .ok (.bipush 6, 2) := dk_16 6 (dk_at dksX4_posts_1 13 rfl rfl)
theorem dX4_posts_39 : decode cX4_posts 39 = .ok (.invokestatic 220, 3) := dk_184 0 220 (dk_at dksX4_posts_1 15 rfl rfl)
theorem dX4_posts_42 : decode cX4_posts 42 = .ok (.isub, 1) := dk_100 (dk_at dksX4_posts_1 18 rfl rfl)
theorem dX4_posts_43 : decode cX4_posts 43 = .ok (.aload_n 0, 1) := dk_42 (dk_at dksX4_posts_1 19 rfl rfl)
theorem dX4_posts_44 : decode cX4_posts 44 = .ok (.getfield 137, 3) := dk_180 0 137 (dk_at dksX4_posts_1 20 rfl rfl)
theorem dX4_posts_47 : decode cX4_posts 47 = .ok (.iload 4, 2) := dk_21 4 (dk_at dksX4_posts_2 0 rfl rfl)
theorem dX4_posts_49 : decode cX4_posts 49 = .ok (.iaload, 1) := dk_46 (dk_at dksX4_posts_2 2 rfl rfl)
theorem dX4_posts_50 : decode cX4_posts 50 = .ok (.iconst 1, 1) := dk_4 (dk_at dksX4_posts_2 3 rfl rfl)
theorem dX4_posts_51 : decode cX4_posts 51 = .ok (.isub, 1) := dk_100 (dk_at dksX4_posts_2 4 rfl rfl)
theorem dX4_posts_52 : decode cX4_posts 52 = .ok (.if_icmp .ge 116, 3) := dk_162 0 116 (dk_at dksX4_posts_2 5 rfl rfl)
theorem dX4_posts_55 : decode cX4_posts 55 = .ok (.iload 4, 2) := dk_21 4 (dk_at dksX4_posts_2 8 rfl rfl)
theorem dX4_posts_57 : decode cX4_posts 57 = .ok (.iload 5, 2) := dk_21 5 (dk_at dksX4_posts_2 10 rfl rfl)
theorem dX4_posts_59 : decode cX4_posts 59 = .ok (.invokestatic 249, 3) := dk_184 0 249 (dk_at dksX4_posts_2 12 rfl rfl)
theorem dX4_posts_62 : decode cX4_posts 62 = .ok (.istore 6, 2) := dk_54 6 (dk_at dksX4_posts_2 15 rfl rfl)
theorem dX4_posts_64 : decode cX4_posts 64 = .ok (.aload_n 1, 1) := dk_43 (dk_at dksX4_posts_2 17 rfl rfl)
theorem dX4_posts_65 : decode cX4_posts 65 = .ok (.iload 6, 2) := dk_21 6 (dk_at dksX4_posts_2 18 rfl rfl)
theorem dX4_posts_67 : decode cX4_posts 67 = .ok (.iconst 0, 1) := dk_3 (dk_at dksX4_posts_2 20 rfl rfl)
theorem dX4_posts_68 : decode cX4_posts 68 = .ok (.iadd, 1) := dk_96 (dk_at dksX4_posts_2 21 rfl rfl)
theorem dX4_posts_69 : decode cX4_posts 69 = .ok (.aload_n 1, 1) := dk_43 (dk_at dksX4_posts_2 22 rfl rfl)
theorem dX4_posts_70 : decode cX4_posts 70 = .ok (.iload_n 3, 1) := dk_29 (dk_at dksX4_posts_2 23 rfl rfl)
theorem dX4_posts_71 : decode cX4_posts 71 = .ok (.iconst 1, 1) := dk_4 (dk_at dksX4_posts_3 0 rfl rfl)
theorem dX4_posts_72 : decode cX4_posts 72 = .ok (.iadd, 1) := dk_96 (dk_at dksX4_posts_3 1 rfl rfl)
theorem dX4_posts_73 : decode cX4_posts 73 = .ok (.iaload, 1) := dk_46 (dk_at dksX4_posts_3 2 rfl rfl)
theorem dX4_posts_74 : decode cX4_posts 74 = .ok (.iastore, 1) := dk_79 (dk_at dksX4_posts_3 3 rfl rfl)
theorem dX4_posts_75 : decode cX4_posts 75 = .ok (.aload_n 1, 1) := dk_43 (dk_at dksX4_posts_3 4 rfl rfl)
theorem dX4_posts_76 : decode cX4_posts 76 = .ok (.iload 6, 2) := dk_21 6 (dk_at dksX4_posts_3 5 rfl rfl)
theorem dX4_posts_78 : decode cX4_posts 78 = .ok (.iconst 1, 1) := dk_4 (dk_at dksX4_posts_3 7 rfl rfl)
theorem dX4_posts_79 : decode cX4_posts 79 = .ok (.iadd, 1) := dk_96 (dk_at dksX4_posts_3 8 rfl rfl)
theorem dX4_posts_80 : decode cX4_posts 80 = .ok (.aload_n 1, 1) := dk_43 (dk_at dksX4_posts_3 9 rfl rfl)
theorem dX4_posts_81 : decode cX4_posts 81 = .ok (.iload_n 3, 1) := dk_29 (dk_at dksX4_posts_3 10 rfl rfl)
theorem dX4_posts_82 : decode cX4_posts 82 = .ok (.iconst 2, 1) := dk_5 (dk_at dksX4_posts_3 11 rfl rfl)
theorem dX4_posts_83 : decode cX4_posts 83 = .ok (.iadd, 1) := dk_96 (dk_at dksX4_posts_3 12 rfl rfl)
theorem dX4_posts_84 : decode cX4_posts 84 = .ok (.iaload, 1) := dk_46 (dk_at dksX4_posts_3 13 rfl rfl)
theorem dX4_posts_85 : decode cX4_posts 85 = .ok (.iastore, 1) := dk_79 (dk_at dksX4_posts_3 14 rfl rfl)
theorem dX4_posts_86 : decode cX4_posts 86 = .ok (.aload_n 1, 1) := dk_43 (dk_at dksX4_posts_3 15 rfl rfl)
theorem dX4_posts_87 : decode cX4_posts 87 = .ok (.iload 6, 2) := dk_21 6 (dk_at dksX4_posts_3 16 rfl rfl)
theorem dX4_posts_89 : decode cX4_posts 89 = .ok (.iconst 2, 1) := dk_5 (dk_at dksX4_posts_3 18 rfl rfl)
theorem dX4_posts_90 : decode cX4_posts 90 = .ok (.iadd, 1) := dk_96 (dk_at dksX4_posts_3 19 rfl rfl)
theorem dX4_posts_91 : decode cX4_posts 91 = .ok (.aload_n 1, 1) := dk_43 (dk_at dksX4_posts_3 20 rfl rfl)
theorem dX4_posts_92 : decode cX4_posts 92 = .ok (.iload_n 3, 1) := dk_29 (dk_at dksX4_posts_3 21 rfl rfl)
theorem dX4_posts_93 : decode cX4_posts 93 = .ok (.iconst 3, 1) := dk_6 (dk_at dksX4_posts_3 22 rfl rfl)
theorem dX4_posts_94 : decode cX4_posts 94 = .ok (.iadd, 1) := dk_96 (dk_at dksX4_posts_3 23 rfl rfl)
theorem dX4_posts_95 : decode cX4_posts 95 = .ok (.iaload, 1) := dk_46 (dk_at dksX4_posts_4 0 rfl rfl)
theorem dX4_posts_96 : decode cX4_posts 96 = .ok (.iastore, 1) := dk_79 (dk_at dksX4_posts_4 1 rfl rfl)
theorem dX4_posts_97 : decode cX4_posts 97 = .ok (.aload_n 1, 1) := dk_43 (dk_at dksX4_posts_4 2 rfl rfl)
theorem dX4_posts_98 : decode cX4_posts 98 = .ok (.iload 6, 2) := dk_21 6 (dk_at dksX4_posts_4 3 rfl rfl)
theorem dX4_posts_100 : decode cX4_posts 100 = .ok (.iconst 3, 1) := dk_6 (dk_at dksX4_posts_4 5 rfl rfl)
theorem dX4_posts_101 : decode cX4_posts 101 = .ok (.iadd, 1) := dk_96 (dk_at dksX4_posts_4 6 rfl rfl)
theorem dX4_posts_102 : decode cX4_posts 102 = .ok (.aload_n 1, 1) := dk_43 (dk_at dksX4_posts_4 7 rfl rfl)
theorem dX4_posts_103 : decode cX4_posts 103 = .ok (.iload 4, 2) := dk_21 4 (dk_at dksX4_posts_4 8 rfl rfl)
theorem dX4_posts_105 : decode cX4_posts 105 = .ok (.iconst 3, 1) := dk_6 (dk_at dksX4_posts_4 10 rfl rfl)
theorem dX4_posts_106 : decode cX4_posts 106 = .ok (.invokestatic 220, 3) := dk_184 0 220 (dk_at dksX4_posts_4 11 rfl rfl)
theorem dX4_posts_109 : decode cX4_posts 109 = .ok (.iastore, 1) := dk_79 (dk_at dksX4_posts_4 14 rfl rfl)
theorem dX4_posts_110 : decode cX4_posts 110 = .ok (.aload_n 1, 1) := dk_43 (dk_at dksX4_posts_4 15 rfl rfl)
theorem dX4_posts_111 : decode cX4_posts 111 = .ok (.iload 6, 2) := dk_21 6 (dk_at dksX4_posts_4 16 rfl rfl)
theorem dX4_posts_113 : decode cX4_posts 113 = .ok (.iconst 4, 1) := dk_7 (dk_at dksX4_posts_4 18 rfl rfl)
theorem dX4_posts_114 : decode cX4_posts 114 = .ok (.iadd, 1) := dk_96 (dk_at dksX4_posts_4 19 rfl rfl)
theorem dX4_posts_115 : decode cX4_posts 115 = .ok (.iload 5, 2) := dk_21 5 (dk_at dksX4_posts_4 20 rfl rfl)
theorem dX4_posts_117 : decode cX4_posts 117 = .ok (.aload_n 0, 1) := dk_42 (dk_at dksX4_posts_4 22 rfl rfl)
theorem dX4_posts_118 : decode cX4_posts 118 = .ok (.getfield 137, 3) := dk_180 0 137 (dk_at dksX4_posts_5 0 rfl rfl)
theorem dX4_posts_121 : decode cX4_posts 121 = .ok (.iload 4, 2) := dk_21 4 (dk_at dksX4_posts_5 3 rfl rfl)
theorem dX4_posts_123 : decode cX4_posts 123 = .ok (.iaload, 1) := dk_46 (dk_at dksX4_posts_5 5 rfl rfl)
theorem dX4_posts_124 : decode cX4_posts 124 = .ok (.idiv, 1) := dk_108 (dk_at dksX4_posts_5 6 rfl rfl)
theorem dX4_posts_125 : decode cX4_posts 125 = .ok (.iconst 2, 1) := dk_5 (dk_at dksX4_posts_5 7 rfl rfl)
theorem dX4_posts_126 : decode cX4_posts 126 = .ok (.irem, 1) := dk_112 (dk_at dksX4_posts_5 8 rfl rfl)
theorem dX4_posts_127 : decode cX4_posts 127 = .ok (.ifCond .ne 7, 3) := dk_154 0 7 (dk_at dksX4_posts_5 9 rfl rfl)
theorem dX4_posts_130 : decode cX4_posts 130 = .ok (.iconst 1, 1) := dk_4 (dk_at dksX4_posts_5 12 rfl rfl)
theorem dX4_posts_131 : decode cX4_posts 131 = .ok (.goto 4, 3) := dk_167 0 4 (dk_at dksX4_posts_5 13 rfl rfl)
theorem dX4_posts_134 : decode cX4_posts 134 = .ok (.iconst 0, 1) := dk_3 (dk_at dksX4_posts_5 16 rfl rfl)
theorem dX4_posts_135 : decode cX4_posts 135 = .ok (.invokestatic 40, 3) := dk_184 0 40 (dk_at dksX4_posts_5 17 rfl rfl)
theorem dX4_posts_138 : decode cX4_posts 138 = .ok (.iastore, 1) := dk_79 (dk_at dksX4_posts_5 20 rfl rfl)
theorem dX4_posts_139 : decode cX4_posts 139 = .ok (.aload_n 1, 1) := dk_43 (dk_at dksX4_posts_5 21 rfl rfl)
theorem dX4_posts_140 : decode cX4_posts 140 = .ok (.iload 4, 2) := dk_21 4 (dk_at dksX4_posts_5 22 rfl rfl)
theorem dX4_posts_142 : decode cX4_posts 142 = .ok (.iconst 5, 1) := dk_8 (dk_at dksX4_posts_6 0 rfl rfl)
theorem dX4_posts_143 : decode cX4_posts 143 = .ok (.iload 5, 2) := dk_21 5 (dk_at dksX4_posts_6 1 rfl rfl)
theorem dX4_posts_145 : decode cX4_posts 145 = .ok (.iconst 1, 1) := dk_4 (dk_at dksX4_posts_6 3 rfl rfl)
theorem dX4_posts_146 : decode cX4_posts 146 = .ok (.iadd, 1) := dk_96 (dk_at dksX4_posts_6 4 rfl rfl)
theorem dX4_posts_147 : decode cX4_posts 147 = .ok (.invokestatic 278, 3) := dk_184 1 22 (dk_at dksX4_posts_6 5 rfl rfl)
theorem dX4_posts_150 : decode cX4_posts 150 = .ok (.aload_n 1, 1) := dk_43 (dk_at dksX4_posts_6 8 rfl rfl)
theorem dX4_posts_151 : decode cX4_posts 151 = .ok (.iload_n 2, 1) := dk_28 (dk_at dksX4_posts_6 9 rfl rfl)
theorem dX4_posts_152 : decode cX4_posts 152 = .ok (.invokestatic 319, 3) := dk_184 1 63 (dk_at dksX4_posts_6 10 rfl rfl)
theorem dX4_posts_155 : decode cX4_posts 155 = .ok (.aload_n 0, 1) := dk_42 (dk_at dksX4_posts_6 13 rfl rfl)
theorem dX4_posts_156 : decode cX4_posts 156 = .ok (.dup, 1) := dk_89 (dk_at dksX4_posts_6 14 rfl rfl)
theorem dX4_posts_157 : decode cX4_posts 157 = .ok (.getfield 322, 3) := dk_180 1 66 (dk_at dksX4_posts_6 15 rfl rfl)
theorem dX4_posts_160 : decode cX4_posts 160 = .ok (.iconst 1, 1) := dk_4 (dk_at dksX4_posts_6 18 rfl rfl)
theorem dX4_posts_161 : decode cX4_posts 161 = .ok (.iadd, 1) := dk_96 (dk_at dksX4_posts_6 19 rfl rfl)
theorem dX4_posts_162 : decode cX4_posts 162 = .ok (.putfield 322, 3) := dk_181 1 66 (dk_at dksX4_posts_6 20 rfl rfl)
theorem dX4_posts_165 : decode cX4_posts 165 = .ok (.goto 6, 3) := dk_167 0 6 (dk_at dksX4_posts_7 0 rfl rfl)
theorem dX4_posts_168 : decode cX4_posts 168 = .ok (.iinc 2 1, 3) := dk_132 2 1 (dk_at dksX4_posts_7 3 rfl rfl)
theorem dX4_posts_171 : decode cX4_posts 171 = .ok (.goto (-169), 3) := dk_167 255 87 (dk_at dksX4_posts_7 6 rfl rfl)
theorem dX4_posts_174 : decode cX4_posts 174 = .ok (.return_, 1) := dk_177 (dk_at dksX4_posts_7 9 rfl rfl)
abbrev cX4_outGoes : ByteArray := prog_13_method_49_code
def yX4_outGoes : MethodName := ⟨RX4, "outGoes", "([II)V"⟩
def dkwX4_outGoes_1 : List UInt8 := [162, 0, 17, 42, 28, 42, 28, 7, 96, 46, 79, 132, 2, 1, 167, 255, 233, 177]
abbrev dktX4_outGoes_1 : List UInt8 := dkwX4_outGoes_1 ++ []
def dkwX4_outGoes_0 : List UInt8 := [42, 17, 3, 46, 92, 46, 4, 100, 79, 27, 184, 0, 246, 61, 28, 42, 17, 3, 46, 46, 184, 0, 246]
abbrev dktX4_outGoes_0 : List UInt8 := dkwX4_outGoes_0 ++ dktX4_outGoes_1
theorem dksX4_outGoes_0 : cX4_outGoes.data.toList.drop 0 = dktX4_outGoes_0 := by decide +kernel
theorem dksX4_outGoes_1 : cX4_outGoes.data.toList.drop 23 = dktX4_outGoes_1 := dk_seg dksX4_outGoes_0 23 rfl rfl
theorem dX4_outGoes_0 : decode cX4_outGoes 0 = .ok (.aload_n 0, 1) := dk_42 (dk_at dksX4_outGoes_0 0 rfl rfl)
theorem dX4_outGoes_1 : decode cX4_outGoes 1 = .ok (.sipush 814, 3) := dk_17 3 46 (dk_at dksX4_outGoes_0 1 rfl rfl)
theorem dX4_outGoes_4 : decode cX4_outGoes 4 = .ok (.dup2, 1) := dk_92 (dk_at dksX4_outGoes_0 4 rfl rfl)
theorem dX4_outGoes_5 : decode cX4_outGoes 5 = .ok (.iaload, 1) := dk_46 (dk_at dksX4_outGoes_0 5 rfl rfl)
theorem dX4_outGoes_6 : decode cX4_outGoes 6 = .ok (.iconst 1, 1) := dk_4 (dk_at dksX4_outGoes_0 6 rfl rfl)
theorem dX4_outGoes_7 : decode cX4_outGoes 7 = .ok (.isub, 1) := dk_100 (dk_at dksX4_outGoes_0 7 rfl rfl)
theorem dX4_outGoes_8 : decode cX4_outGoes 8 = .ok (.iastore, 1) := dk_79 (dk_at dksX4_outGoes_0 8 rfl rfl)
theorem dX4_outGoes_9 : decode cX4_outGoes 9 = .ok (.iload_n 1, 1) := dk_27 (dk_at dksX4_outGoes_0 9 rfl rfl)
theorem dX4_outGoes_10 : decode cX4_outGoes 10 = .ok (.invokestatic 246, 3) := dk_184 0 246 (dk_at dksX4_outGoes_0 10 rfl rfl)
theorem dX4_outGoes_13 : decode cX4_outGoes 13 = .ok (.istore_n 2, 1) := dk_61 (dk_at dksX4_outGoes_0 13 rfl rfl)
theorem dX4_outGoes_14 : decode cX4_outGoes 14 = .ok (.iload_n 2, 1) := dk_28 (dk_at dksX4_outGoes_0 14 rfl rfl)
theorem dX4_outGoes_15 : decode cX4_outGoes 15 = .ok (.aload_n 0, 1) := dk_42 (dk_at dksX4_outGoes_0 15 rfl rfl)
theorem dX4_outGoes_16 : decode cX4_outGoes 16 = .ok (.sipush 814, 3) := dk_17 3 46 (dk_at dksX4_outGoes_0 16 rfl rfl)
theorem dX4_outGoes_19 : decode cX4_outGoes 19 = .ok (.iaload, 1) := dk_46 (dk_at dksX4_outGoes_0 19 rfl rfl)
theorem dX4_outGoes_20 : decode cX4_outGoes 20 = .ok (.invokestatic 246, 3) := dk_184 0 246 (dk_at dksX4_outGoes_0 20 rfl rfl)
theorem dX4_outGoes_23 : decode cX4_outGoes 23 = .ok (.if_icmp .ge 17, 3) := dk_162 0 17 (dk_at dksX4_outGoes_1 0 rfl rfl)
theorem dX4_outGoes_26 : decode cX4_outGoes 26 = .ok (.aload_n 0, 1) := dk_42 (dk_at dksX4_outGoes_1 3 rfl rfl)
theorem dX4_outGoes_27 : decode cX4_outGoes 27 = .ok (.iload_n 2, 1) := dk_28 (dk_at dksX4_outGoes_1 4 rfl rfl)
theorem dX4_outGoes_28 : decode cX4_outGoes 28 = .ok (.aload_n 0, 1) := dk_42 (dk_at dksX4_outGoes_1 5 rfl rfl)
theorem dX4_outGoes_29 : decode cX4_outGoes 29 = .ok (.iload_n 2, 1) := dk_28 (dk_at dksX4_outGoes_1 6 rfl rfl)
theorem dX4_outGoes_30 : decode cX4_outGoes 30 = .ok (.iconst 4, 1) := dk_7 (dk_at dksX4_outGoes_1 7 rfl rfl)
theorem dX4_outGoes_31 : decode cX4_outGoes 31 = .ok (.iadd, 1) := dk_96 (dk_at dksX4_outGoes_1 8 rfl rfl)
theorem dX4_outGoes_32 : decode cX4_outGoes 32 = .ok (.iaload, 1) := dk_46 (dk_at dksX4_outGoes_1 9 rfl rfl)
theorem dX4_outGoes_33 : decode cX4_outGoes 33 = .ok (.iastore, 1) := dk_79 (dk_at dksX4_outGoes_1 10 rfl rfl)
theorem dX4_outGoes_34 : decode cX4_outGoes 34 = .ok (.iinc 2 1, 3) := dk_132 2 1 (dk_at dksX4_outGoes_1 11 rfl rfl)
theorem dX4_outGoes_37 : decode cX4_outGoes 37 = .ok (.goto (-23), 3) := dk_167 255 233 (dk_at dksX4_outGoes_1 14 rfl rfl)
theorem dX4_outGoes_40 : decode cX4_outGoes 40 = .ok (.return_, 1) := dk_177 (dk_at dksX4_outGoes_1 17 rfl rfl)
abbrev cX4_fetchedAll : ByteArray := prog_13_method_65_code
def yX4_fetchedAll : MethodName := ⟨RX4, "fetchedAll", "([I)I"⟩
def dkwX4_fetchedAll_1 : List UInt8 := [167, 255, 238, 27, 172]
abbrev dktX4_fetchedAll_1 : List UInt8 := dkwX4_fetchedAll_1 ++ []
def dkwX4_fetchedAll_0 : List UInt8 := [3, 60, 3, 61, 28, 7, 162, 0, 19, 27, 42, 17, 3, 72, 28, 96, 46, 96, 60, 132, 2, 1]
abbrev dktX4_fetchedAll_0 : List UInt8 := dkwX4_fetchedAll_0 ++ dktX4_fetchedAll_1
theorem dksX4_fetchedAll_0 : cX4_fetchedAll.data.toList.drop 0 = dktX4_fetchedAll_0 := by decide +kernel
theorem dksX4_fetchedAll_1 : cX4_fetchedAll.data.toList.drop 22 = dktX4_fetchedAll_1 := dk_seg dksX4_fetchedAll_0 22 rfl rfl
theorem dX4_fetchedAll_0 : decode cX4_fetchedAll 0 = .ok (.iconst 0, 1) := dk_3 (dk_at dksX4_fetchedAll_0 0 rfl rfl)
theorem dX4_fetchedAll_1 : decode cX4_fetchedAll 1 = .ok (.istore_n 1, 1) := dk_60 (dk_at dksX4_fetchedAll_0 1 rfl rfl)
theorem dX4_fetchedAll_2 : decode cX4_fetchedAll 2 = .ok (.iconst 0, 1) := dk_3 (dk_at dksX4_fetchedAll_0 2 rfl rfl)
theorem dX4_fetchedAll_3 : decode cX4_fetchedAll 3 = .ok (.istore_n 2, 1) := dk_61 (dk_at dksX4_fetchedAll_0 3 rfl rfl)
theorem dX4_fetchedAll_4 : decode cX4_fetchedAll 4 = .ok (.iload_n 2, 1) := dk_28 (dk_at dksX4_fetchedAll_0 4 rfl rfl)
theorem dX4_fetchedAll_5 : decode cX4_fetchedAll 5 = .ok (.iconst 4, 1) := dk_7 (dk_at dksX4_fetchedAll_0 5 rfl rfl)
theorem dX4_fetchedAll_6 : decode cX4_fetchedAll 6 = .ok (.if_icmp .ge 19, 3) := dk_162 0 19 (dk_at dksX4_fetchedAll_0 6 rfl rfl)
theorem dX4_fetchedAll_9 : decode cX4_fetchedAll 9 = .ok (.iload_n 1, 1) := dk_27 (dk_at dksX4_fetchedAll_0 9 rfl rfl)
theorem dX4_fetchedAll_10 : decode cX4_fetchedAll 10 = .ok (.aload_n 0, 1) := dk_42 (dk_at dksX4_fetchedAll_0 10 rfl rfl)
theorem dX4_fetchedAll_11 : decode cX4_fetchedAll 11 = .ok (.sipush 840, 3) := dk_17 3 72 (dk_at dksX4_fetchedAll_0 11 rfl rfl)
theorem dX4_fetchedAll_14 : decode cX4_fetchedAll 14 = .ok (.iload_n 2, 1) := dk_28 (dk_at dksX4_fetchedAll_0 14 rfl rfl)
theorem dX4_fetchedAll_15 : decode cX4_fetchedAll 15 = .ok (.iadd, 1) := dk_96 (dk_at dksX4_fetchedAll_0 15 rfl rfl)
theorem dX4_fetchedAll_16 : decode cX4_fetchedAll 16 = .ok (.iaload, 1) := dk_46 (dk_at dksX4_fetchedAll_0 16 rfl rfl)
theorem dX4_fetchedAll_17 : decode cX4_fetchedAll 17 = .ok (.iadd, 1) := dk_96 (dk_at dksX4_fetchedAll_0 17 rfl rfl)
theorem dX4_fetchedAll_18 : decode cX4_fetchedAll 18 = .ok (.istore_n 1, 1) := dk_60 (dk_at dksX4_fetchedAll_0 18 rfl rfl)
theorem dX4_fetchedAll_19 : decode cX4_fetchedAll 19 = .ok (.iinc 2 1, 3) := dk_132 2 1 (dk_at dksX4_fetchedAll_0 19 rfl rfl)
theorem dX4_fetchedAll_22 : decode cX4_fetchedAll 22 = .ok (.goto (-18), 3) := dk_167 255 238 (dk_at dksX4_fetchedAll_1 0 rfl rfl)
theorem dX4_fetchedAll_25 : decode cX4_fetchedAll 25 = .ok (.iload_n 1, 1) := dk_27 (dk_at dksX4_fetchedAll_1 3 rfl rfl)
theorem dX4_fetchedAll_26 : decode cX4_fetchedAll 26 = .ok (.ireturn, 1) := dk_172 (dk_at dksX4_fetchedAll_1 4 rfl rfl)
abbrev cX4_isAnyWork : ByteArray := prog_13_method_58_code
def yX4_isAnyWork : MethodName := ⟨RX4, "isAnyWork", "([I)Z"⟩
def dkwX4_isAnyWork_1 : List UInt8 := [4, 167, 0, 4, 3, 61, 132, 3, 1, 167, 255, 227, 28, 172]
abbrev dktX4_isAnyWork_1 : List UInt8 := dkwX4_isAnyWork_1 ++ []
def dkwX4_isAnyWork_0 : List UInt8 := [3, 61, 3, 62, 29, 42, 180, 0, 198, 162, 0, 27, 28, 154, 0, 11, 43, 29, 184, 1, 38, 153, 0, 7]
abbrev dktX4_isAnyWork_0 : List UInt8 := dkwX4_isAnyWork_0 ++ dktX4_isAnyWork_1
theorem dksX4_isAnyWork_0 : cX4_isAnyWork.data.toList.drop 0 = dktX4_isAnyWork_0 := by decide +kernel
theorem dksX4_isAnyWork_1 : cX4_isAnyWork.data.toList.drop 24 = dktX4_isAnyWork_1 := dk_seg dksX4_isAnyWork_0 24 rfl rfl
theorem dX4_isAnyWork_0 : decode cX4_isAnyWork 0 = .ok (.iconst 0, 1) := dk_3 (dk_at dksX4_isAnyWork_0 0 rfl rfl)
theorem dX4_isAnyWork_1 : decode cX4_isAnyWork 1 = .ok (.istore_n 2, 1) := dk_61 (dk_at dksX4_isAnyWork_0 1 rfl rfl)
theorem dX4_isAnyWork_2 : decode cX4_isAnyWork 2 = .ok (.iconst 0, 1) := dk_3 (dk_at dksX4_isAnyWork_0 2 rfl rfl)
theorem dX4_isAnyWork_3 : decode cX4_isAnyWork 3 = .ok (.istore_n 3, 1) := dk_62 (dk_at dksX4_isAnyWork_0 3 rfl rfl)
theorem dX4_isAnyWork_4 : decode cX4_isAnyWork 4 = .ok (.iload_n 3, 1) := dk_29 (dk_at dksX4_isAnyWork_0 4 rfl rfl)
theorem dX4_isAnyWork_5 : decode cX4_isAnyWork 5 = .ok (.aload_n 0, 1) := dk_42 (dk_at dksX4_isAnyWork_0 5 rfl rfl)
theorem dX4_isAnyWork_6 : decode cX4_isAnyWork 6 = .ok (.getfield 198, 3) := dk_180 0 198 (dk_at dksX4_isAnyWork_0 6 rfl rfl)
theorem dX4_isAnyWork_9 : decode cX4_isAnyWork 9 = .ok (.if_icmp .ge 27, 3) := dk_162 0 27 (dk_at dksX4_isAnyWork_0 9 rfl rfl)
theorem dX4_isAnyWork_12 : decode cX4_isAnyWork 12 = .ok (.iload_n 2, 1) := dk_28 (dk_at dksX4_isAnyWork_0 12 rfl rfl)
theorem dX4_isAnyWork_13 : decode cX4_isAnyWork 13 = .ok (.ifCond .ne 11, 3) := dk_154 0 11 (dk_at dksX4_isAnyWork_0 13 rfl rfl)
theorem dX4_isAnyWork_16 : decode cX4_isAnyWork 16 = .ok (.aload_n 1, 1) := dk_43 (dk_at dksX4_isAnyWork_0 16 rfl rfl)
theorem dX4_isAnyWork_17 : decode cX4_isAnyWork 17 = .ok (.iload_n 3, 1) := dk_29 (dk_at dksX4_isAnyWork_0 17 rfl rfl)
theorem dX4_isAnyWork_18 : decode cX4_isAnyWork 18 = .ok (.invokestatic 294, 3) := dk_184 1 38 (dk_at dksX4_isAnyWork_0 18 rfl rfl)
theorem dX4_isAnyWork_21 : decode cX4_isAnyWork 21 = .ok (.ifCond .eq 7, 3) := dk_153 0 7 (dk_at dksX4_isAnyWork_0 21 rfl rfl)
theorem dX4_isAnyWork_24 : decode cX4_isAnyWork 24 = .ok (.iconst 1, 1) := dk_4 (dk_at dksX4_isAnyWork_1 0 rfl rfl)
theorem dX4_isAnyWork_25 : decode cX4_isAnyWork 25 = .ok (.goto 4, 3) := dk_167 0 4 (dk_at dksX4_isAnyWork_1 1 rfl rfl)
theorem dX4_isAnyWork_28 : decode cX4_isAnyWork 28 = .ok (.iconst 0, 1) := dk_3 (dk_at dksX4_isAnyWork_1 4 rfl rfl)
theorem dX4_isAnyWork_29 : decode cX4_isAnyWork 29 = .ok (.istore_n 2, 1) := dk_61 (dk_at dksX4_isAnyWork_1 5 rfl rfl)
theorem dX4_isAnyWork_30 : decode cX4_isAnyWork 30 = .ok (.iinc 3 1, 3) := dk_132 3 1 (dk_at dksX4_isAnyWork_1 6 rfl rfl)
theorem dX4_isAnyWork_33 : decode cX4_isAnyWork 33 = .ok (.goto (-29), 3) := dk_167 255 227 (dk_at dksX4_isAnyWork_1 9 rfl rfl)
theorem dX4_isAnyWork_36 : decode cX4_isAnyWork 36 = .ok (.iload_n 2, 1) := dk_28 (dk_at dksX4_isAnyWork_1 12 rfl rfl)
theorem dX4_isAnyWork_37 : decode cX4_isAnyWork 37 = .ok (.ireturn, 1) := dk_172 (dk_at dksX4_isAnyWork_1 13 rfl rfl)
abbrev cX4_hasWork : ByteArray := prog_13_method_55_code
def yX4_hasWork : MethodName := ⟨RX4, "hasWork", "([II)Z"⟩
def dkwX4_hasWork_0 : List UInt8 := [42, 27, 5, 184, 0, 220, 42, 27, 6, 184, 0, 220, 164, 0, 7, 4, 167, 0, 4, 3, 172]
abbrev dktX4_hasWork_0 : List UInt8 := dkwX4_hasWork_0 ++ []
theorem dksX4_hasWork_0 : cX4_hasWork.data.toList.drop 0 = dktX4_hasWork_0 := by decide +kernel
theorem dX4_hasWork_0 : decode cX4_hasWork 0 = .ok (.aload_n 0, 1) := dk_42 (dk_at dksX4_hasWork_0 0 rfl rfl)
theorem dX4_hasWork_1 : decode cX4_hasWork 1 = .ok (.iload_n 1, 1) := dk_27 (dk_at dksX4_hasWork_0 1 rfl rfl)
theorem dX4_hasWork_2 : decode cX4_hasWork 2 = .ok (.iconst 2, 1) := dk_5 (dk_at dksX4_hasWork_0 2 rfl rfl)
theorem dX4_hasWork_3 : decode cX4_hasWork 3 = .ok (.invokestatic 220, 3) := dk_184 0 220 (dk_at dksX4_hasWork_0 3 rfl rfl)
theorem dX4_hasWork_6 : decode cX4_hasWork 6 = .ok (.aload_n 0, 1) := dk_42 (dk_at dksX4_hasWork_0 6 rfl rfl)
theorem dX4_hasWork_7 : decode cX4_hasWork 7 = .ok (.iload_n 1, 1) := dk_27 (dk_at dksX4_hasWork_0 7 rfl rfl)
theorem dX4_hasWork_8 : decode cX4_hasWork 8 = .ok (.iconst 3, 1) := dk_6 (dk_at dksX4_hasWork_0 8 rfl rfl)
theorem dX4_hasWork_9 : decode cX4_hasWork 9 = .ok (.invokestatic 220, 3) := dk_184 0 220 (dk_at dksX4_hasWork_0 9 rfl rfl)
theorem dX4_hasWork_12 : decode cX4_hasWork 12 = .ok (.if_icmp .le 7, 3) := dk_164 0 7 (dk_at dksX4_hasWork_0 12 rfl rfl)
theorem dX4_hasWork_15 : decode cX4_hasWork 15 = .ok (.iconst 1, 1) := dk_4 (dk_at dksX4_hasWork_0 15 rfl rfl)
theorem dX4_hasWork_16 : decode cX4_hasWork 16 = .ok (.goto 4, 3) := dk_167 0 4 (dk_at dksX4_hasWork_0 16 rfl rfl)
theorem dX4_hasWork_19 : decode cX4_hasWork 19 = .ok (.iconst 0, 1) := dk_3 (dk_at dksX4_hasWork_0 19 rfl rfl)
theorem dX4_hasWork_20 : decode cX4_hasWork 20 = .ok (.ireturn, 1) := dk_172 (dk_at dksX4_hasWork_0 20 rfl rfl)
abbrev cX4_fetches : ByteArray := prog_13_method_63_code
def yX4_fetches : MethodName := ⟨RX4, "fetches", "([I)V"⟩
def dkwX4_fetches_8 : List UInt8 := [21, 9, 16, 11, 96, 21, 8, 79, 43, 17, 1, 237, 92, 46, 4, 96, 79, 177]
abbrev dktX4_fetches_8 : List UInt8 := dkwX4_fetches_8 ++ []
def dkwX4_fetches_7 : List UInt8 := [2, 79, 21, 7, 153, 0, 18, 43, 21, 9, 16, 6, 96, 42, 43, 28, 182, 1, 53, 184, 1, 59, 43]
abbrev dktX4_fetches_7 : List UInt8 := dkwX4_fetches_7 ++ dktX4_fetches_8
def dkwX4_fetches_6 : List UInt8 := [43, 21, 9, 3, 96, 28, 79, 43, 21, 9, 4, 96, 29, 184, 1, 59, 43, 21, 9, 16, 6, 96, 4, 96]
abbrev dktX4_fetches_6 : List UInt8 := dkwX4_fetches_6 ++ dktX4_fetches_7
def dkwX4_fetches_5 : List UInt8 := [3, 184, 1, 31, 177, 42, 43, 28, 29, 182, 1, 56, 54, 8, 43, 17, 1, 237, 46, 184, 0, 236, 54, 9]
abbrev dktX4_fetches_5 : List UInt8 := dkwX4_fetches_5 ++ dktX4_fetches_6
def dkwX4_fetches_4 : List UInt8 := [54, 7, 21, 5, 5, 160, 0, 8, 21, 7, 153, 0, 9, 21, 5, 6, 160, 0, 13, 43, 28, 21, 4, 7]
abbrev dktX4_fetches_4 : List UInt8 := dkwX4_fetches_4 ++ dktX4_fetches_5
def dkwX4_fetches_3 : List UInt8 := [43, 21, 6, 4, 96, 46, 6, 160, 0, 16, 43, 21, 6, 7, 96, 46, 154, 0, 7, 4, 167, 0, 4, 3]
abbrev dktX4_fetches_3 : List UInt8 := dkwX4_fetches_3 ++ dktX4_fetches_4
def dkwX4_fetches_2 : List UInt8 := [28, 6, 184, 0, 220, 184, 0, 239, 54, 6, 21, 5, 5, 160, 0, 34, 43, 28, 184, 1, 38, 153, 0, 26]
abbrev dktX4_fetches_2 : List UInt8 := dkwX4_fetches_2 ++ dktX4_fetches_3
def dkwX4_fetches_1 : List UInt8 := [46, 54, 5, 43, 29, 7, 96, 46, 4, 160, 0, 13, 43, 28, 21, 4, 4, 3, 184, 1, 31, 177, 28, 43]
abbrev dktX4_fetches_1 : List UInt8 := dkwX4_fetches_1 ++ dktX4_fetches_2
def dkwX4_fetches_0 : List UInt8 := [42, 43, 182, 1, 50, 61, 42, 43, 28, 182, 1, 53, 62, 43, 29, 3, 96, 46, 54, 4, 43, 29, 4, 96]
abbrev dktX4_fetches_0 : List UInt8 := dkwX4_fetches_0 ++ dktX4_fetches_1
theorem dksX4_fetches_0 : cX4_fetches.data.toList.drop 0 = dktX4_fetches_0 := by decide +kernel
theorem dksX4_fetches_1 : cX4_fetches.data.toList.drop 24 = dktX4_fetches_1 := dk_seg dksX4_fetches_0 24 rfl rfl
theorem dksX4_fetches_2 : cX4_fetches.data.toList.drop 48 = dktX4_fetches_2 := dk_seg dksX4_fetches_1 24 rfl rfl
theorem dksX4_fetches_3 : cX4_fetches.data.toList.drop 72 = dktX4_fetches_3 := dk_seg dksX4_fetches_2 24 rfl rfl
theorem dksX4_fetches_4 : cX4_fetches.data.toList.drop 96 = dktX4_fetches_4 := dk_seg dksX4_fetches_3 24 rfl rfl
theorem dksX4_fetches_5 : cX4_fetches.data.toList.drop 120 = dktX4_fetches_5 := dk_seg dksX4_fetches_4 24 rfl rfl
theorem dksX4_fetches_6 : cX4_fetches.data.toList.drop 144 = dktX4_fetches_6 := dk_seg dksX4_fetches_5 24 rfl rfl
theorem dksX4_fetches_7 : cX4_fetches.data.toList.drop 168 = dktX4_fetches_7 := dk_seg dksX4_fetches_6 24 rfl rfl
theorem dksX4_fetches_8 : cX4_fetches.data.toList.drop 191 = dktX4_fetches_8 := dk_seg dksX4_fetches_7 23 rfl rfl
theorem dX4_fetches_0 : decode cX4_fetches 0 = .ok (.aload_n 0, 1) := dk_42 (dk_at dksX4_fetches_0 0 rfl rfl)
theorem dX4_fetches_1 : decode cX4_fetches 1 = .ok (.aload_n 1, 1) := dk_43 (dk_at dksX4_fetches_0 1 rfl rfl)
theorem dX4_fetches_2 : decode cX4_fetches 2 = .ok (.invokevirtual 306, 3) := dk_182 1 50 (dk_at dksX4_fetches_0 2 rfl rfl)
theorem dX4_fetches_5 : decode cX4_fetches 5 = .ok (.istore_n 2, 1) := dk_61 (dk_at dksX4_fetches_0 5 rfl rfl)
theorem dX4_fetches_6 : decode cX4_fetches 6 = .ok (.aload_n 0, 1) := dk_42 (dk_at dksX4_fetches_0 6 rfl rfl)
theorem dX4_fetches_7 : decode cX4_fetches 7 = .ok (.aload_n 1, 1) := dk_43 (dk_at dksX4_fetches_0 7 rfl rfl)
theorem dX4_fetches_8 : decode cX4_fetches 8 = .ok (.iload_n 2, 1) := dk_28 (dk_at dksX4_fetches_0 8 rfl rfl)
theorem dX4_fetches_9 : decode cX4_fetches 9 = .ok (.invokevirtual 309, 3) := dk_182 1 53 (dk_at dksX4_fetches_0 9 rfl rfl)
theorem dX4_fetches_12 : decode cX4_fetches 12 = .ok (.istore_n 3, 1) := dk_62 (dk_at dksX4_fetches_0 12 rfl rfl)
theorem dX4_fetches_13 : decode cX4_fetches 13 = .ok (.aload_n 1, 1) := dk_43 (dk_at dksX4_fetches_0 13 rfl rfl)
theorem dX4_fetches_14 : decode cX4_fetches 14 = .ok (.iload_n 3, 1) := dk_29 (dk_at dksX4_fetches_0 14 rfl rfl)
theorem dX4_fetches_15 : decode cX4_fetches 15 = .ok (.iconst 0, 1) := dk_3 (dk_at dksX4_fetches_0 15 rfl rfl)
theorem dX4_fetches_16 : decode cX4_fetches 16 = .ok (.iadd, 1) := dk_96 (dk_at dksX4_fetches_0 16 rfl rfl)
theorem dX4_fetches_17 : decode cX4_fetches 17 = .ok (.iaload, 1) := dk_46 (dk_at dksX4_fetches_0 17 rfl rfl)
theorem dX4_fetches_18 : decode cX4_fetches 18 = .ok (.istore 4, 2) := dk_54 4 (dk_at dksX4_fetches_0 18 rfl rfl)
theorem dX4_fetches_20 : decode cX4_fetches 20 = .ok (.aload_n 1, 1) := dk_43 (dk_at dksX4_fetches_0 20 rfl rfl)
theorem dX4_fetches_21 : decode cX4_fetches 21 = .ok (.iload_n 3, 1) := dk_29 (dk_at dksX4_fetches_0 21 rfl rfl)
theorem dX4_fetches_22 : decode cX4_fetches 22 = .ok (.iconst 1, 1) := dk_4 (dk_at dksX4_fetches_0 22 rfl rfl)
theorem dX4_fetches_23 : decode cX4_fetches 23 = .ok (.iadd, 1) := dk_96 (dk_at dksX4_fetches_0 23 rfl rfl)
theorem dX4_fetches_24 : decode cX4_fetches 24 = .ok (.iaload, 1) := dk_46 (dk_at dksX4_fetches_1 0 rfl rfl)
theorem dX4_fetches_25 : decode cX4_fetches 25 = .ok (.istore 5, 2) := dk_54 5 (dk_at dksX4_fetches_1 1 rfl rfl)
theorem dX4_fetches_27 : decode cX4_fetches 27 = .ok (.aload_n 1, 1) := dk_43 (dk_at dksX4_fetches_1 3 rfl rfl)
theorem dX4_fetches_28 : decode cX4_fetches 28 = .ok (.iload_n 3, 1) := dk_29 (dk_at dksX4_fetches_1 4 rfl rfl)
theorem dX4_fetches_29 : decode cX4_fetches 29 = .ok (.iconst 4, 1) := dk_7 (dk_at dksX4_fetches_1 5 rfl rfl)
theorem dX4_fetches_30 : decode cX4_fetches 30 = .ok (.iadd, 1) := dk_96 (dk_at dksX4_fetches_1 6 rfl rfl)
theorem dX4_fetches_31 : decode cX4_fetches 31 = .ok (.iaload, 1) := dk_46 (dk_at dksX4_fetches_1 7 rfl rfl)
theorem dX4_fetches_32 : decode cX4_fetches 32 = .ok (.iconst 1, 1) := dk_4 (dk_at dksX4_fetches_1 8 rfl rfl)
theorem dX4_fetches_33 : decode cX4_fetches 33 = .ok (.if_icmp .ne 13, 3) := dk_160 0 13 (dk_at dksX4_fetches_1 9 rfl rfl)
theorem dX4_fetches_36 : decode cX4_fetches 36 = .ok (.aload_n 1, 1) := dk_43 (dk_at dksX4_fetches_1 12 rfl rfl)
theorem dX4_fetches_37 : decode cX4_fetches 37 = .ok (.iload_n 2, 1) := dk_28 (dk_at dksX4_fetches_1 13 rfl rfl)
theorem dX4_fetches_38 : decode cX4_fetches 38 = .ok (.iload 4, 2) := dk_21 4 (dk_at dksX4_fetches_1 14 rfl rfl)
theorem dX4_fetches_40 : decode cX4_fetches 40 = .ok (.iconst 1, 1) := dk_4 (dk_at dksX4_fetches_1 16 rfl rfl)
theorem dX4_fetches_41 : decode cX4_fetches 41 = .ok (.iconst 0, 1) := dk_3 (dk_at dksX4_fetches_1 17 rfl rfl)
theorem dX4_fetches_42 : decode cX4_fetches 42 = .ok (.invokestatic 287, 3) := dk_184 1 31 (dk_at dksX4_fetches_1 18 rfl rfl)
theorem dX4_fetches_45 : decode cX4_fetches 45 = .ok (.return_, 1) := dk_177 (dk_at dksX4_fetches_1 21 rfl rfl)
theorem dX4_fetches_46 : decode cX4_fetches 46 = .ok (.iload_n 2, 1) := dk_28 (dk_at dksX4_fetches_1 22 rfl rfl)
theorem dX4_fetches_47 : decode cX4_fetches 47 = .ok (.aload_n 1, 1) := dk_43 (dk_at dksX4_fetches_1 23 rfl rfl)
theorem dX4_fetches_48 : decode cX4_fetches 48 = .ok (.iload_n 2, 1) := dk_28 (dk_at dksX4_fetches_2 0 rfl rfl)
theorem dX4_fetches_49 : decode cX4_fetches 49 = .ok (.iconst 3, 1) := dk_6 (dk_at dksX4_fetches_2 1 rfl rfl)
theorem dX4_fetches_50 : decode cX4_fetches 50 = .ok (.invokestatic 220, 3) := dk_184 0 220 (dk_at dksX4_fetches_2 2 rfl rfl)
theorem dX4_fetches_53 : decode cX4_fetches 53 = .ok (.invokestatic 239, 3) := dk_184 0 239 (dk_at dksX4_fetches_2 5 rfl rfl)
theorem dX4_fetches_56 : decode cX4_fetches 56 = .ok (.istore 6, 2) := dk_54 6 (dk_at dksX4_fetches_2 8 rfl rfl)
theorem dX4_fetches_58 : decode cX4_fetches 58 = .ok (.iload 5, 2) := dk_21 5 (dk_at dksX4_fetches_2 10 rfl rfl)
theorem dX4_fetches_60 : decode cX4_fetches 60 = .ok (.iconst 2, 1) := dk_5 (dk_at dksX4_fetches_2 12 rfl rfl)
theorem dX4_fetches_61 : decode cX4_fetches 61 = .ok (.if_icmp .ne 34, 3) := dk_160 0 34 (dk_at dksX4_fetches_2 13 rfl rfl)
theorem dX4_fetches_64 : decode cX4_fetches 64 = .ok (.aload_n 1, 1) := dk_43 (dk_at dksX4_fetches_2 16 rfl rfl)
theorem dX4_fetches_65 : decode cX4_fetches 65 = .ok (.iload_n 2, 1) := dk_28 (dk_at dksX4_fetches_2 17 rfl rfl)
theorem dX4_fetches_66 : decode cX4_fetches 66 = .ok (.invokestatic 294, 3) := dk_184 1 38 (dk_at dksX4_fetches_2 18 rfl rfl)
theorem dX4_fetches_69 : decode cX4_fetches 69 = .ok (.ifCond .eq 26, 3) := dk_153 0 26 (dk_at dksX4_fetches_2 21 rfl rfl)
theorem dX4_fetches_72 : decode cX4_fetches 72 = .ok (.aload_n 1, 1) := dk_43 (dk_at dksX4_fetches_3 0 rfl rfl)
theorem dX4_fetches_73 : decode cX4_fetches 73 = .ok (.iload 6, 2) := dk_21 6 (dk_at dksX4_fetches_3 1 rfl rfl)
theorem dX4_fetches_75 : decode cX4_fetches 75 = .ok (.iconst 1, 1) := dk_4 (dk_at dksX4_fetches_3 3 rfl rfl)
theorem dX4_fetches_76 : decode cX4_fetches 76 = .ok (.iadd, 1) := dk_96 (dk_at dksX4_fetches_3 4 rfl rfl)
theorem dX4_fetches_77 : decode cX4_fetches 77 = .ok (.iaload, 1) := dk_46 (dk_at dksX4_fetches_3 5 rfl rfl)
theorem dX4_fetches_78 : decode cX4_fetches 78 = .ok (.iconst 3, 1) := dk_6 (dk_at dksX4_fetches_3 6 rfl rfl)
theorem dX4_fetches_79 : decode cX4_fetches 79 = .ok (.if_icmp .ne 16, 3) := dk_160 0 16 (dk_at dksX4_fetches_3 7 rfl rfl)
theorem dX4_fetches_82 : decode cX4_fetches 82 = .ok (.aload_n 1, 1) := dk_43 (dk_at dksX4_fetches_3 10 rfl rfl)
theorem dX4_fetches_83 : decode cX4_fetches 83 = .ok (.iload 6, 2) := dk_21 6 (dk_at dksX4_fetches_3 11 rfl rfl)
theorem dX4_fetches_85 : decode cX4_fetches 85 = .ok (.iconst 4, 1) := dk_7 (dk_at dksX4_fetches_3 13 rfl rfl)
theorem dX4_fetches_86 : decode cX4_fetches 86 = .ok (.iadd, 1) := dk_96 (dk_at dksX4_fetches_3 14 rfl rfl)
theorem dX4_fetches_87 : decode cX4_fetches 87 = .ok (.iaload, 1) := dk_46 (dk_at dksX4_fetches_3 15 rfl rfl)
theorem dX4_fetches_88 : decode cX4_fetches 88 = .ok (.ifCond .ne 7, 3) := dk_154 0 7 (dk_at dksX4_fetches_3 16 rfl rfl)
theorem dX4_fetches_91 : decode cX4_fetches 91 = .ok (.iconst 1, 1) := dk_4 (dk_at dksX4_fetches_3 19 rfl rfl)
theorem dX4_fetches_92 : decode cX4_fetches 92 = .ok (.goto 4, 3) := dk_167 0 4 (dk_at dksX4_fetches_3 20 rfl rfl)
theorem dX4_fetches_95 : decode cX4_fetches 95 = .ok (.iconst 0, 1) := dk_3 (dk_at dksX4_fetches_3 23 rfl rfl)
theorem dX4_fetches_96 : decode cX4_fetches 96 = .ok (.istore 7, 2) := dk_54 7 (dk_at dksX4_fetches_4 0 rfl rfl)
theorem dX4_fetches_98 : decode cX4_fetches 98 = .ok (.iload 5, 2) := dk_21 5 (dk_at dksX4_fetches_4 2 rfl rfl)
theorem dX4_fetches_100 : decode cX4_fetches 100 = .ok (.iconst 2, 1) := dk_5 (dk_at dksX4_fetches_4 4 rfl rfl)
theorem dX4_fetches_101 : decode cX4_fetches 101 = .ok (.if_icmp .ne 8, 3) := dk_160 0 8 (dk_at dksX4_fetches_4 5 rfl rfl)
theorem dX4_fetches_104 : decode cX4_fetches 104 = .ok (.iload 7, 2) := dk_21 7 (dk_at dksX4_fetches_4 8 rfl rfl)
theorem dX4_fetches_106 : decode cX4_fetches 106 = .ok (.ifCond .eq 9, 3) := dk_153 0 9 (dk_at dksX4_fetches_4 10 rfl rfl)
theorem dX4_fetches_109 : decode cX4_fetches 109 = .ok (.iload 5, 2) := dk_21 5 (dk_at dksX4_fetches_4 13 rfl rfl)
theorem dX4_fetches_111 : decode cX4_fetches 111 = .ok (.iconst 3, 1) := dk_6 (dk_at dksX4_fetches_4 15 rfl rfl)
theorem dX4_fetches_112 : decode cX4_fetches 112 = .ok (.if_icmp .ne 13, 3) := dk_160 0 13 (dk_at dksX4_fetches_4 16 rfl rfl)
theorem dX4_fetches_115 : decode cX4_fetches 115 = .ok (.aload_n 1, 1) := dk_43 (dk_at dksX4_fetches_4 19 rfl rfl)
theorem dX4_fetches_116 : decode cX4_fetches 116 = .ok (.iload_n 2, 1) := dk_28 (dk_at dksX4_fetches_4 20 rfl rfl)
theorem dX4_fetches_117 : decode cX4_fetches 117 = .ok (.iload 4, 2) := dk_21 4 (dk_at dksX4_fetches_4 21 rfl rfl)
theorem dX4_fetches_119 : decode cX4_fetches 119 = .ok (.iconst 4, 1) := dk_7 (dk_at dksX4_fetches_4 23 rfl rfl)
theorem dX4_fetches_120 : decode cX4_fetches 120 = .ok (.iconst 0, 1) := dk_3 (dk_at dksX4_fetches_5 0 rfl rfl)
theorem dX4_fetches_121 : decode cX4_fetches 121 = .ok (.invokestatic 287, 3) := dk_184 1 31 (dk_at dksX4_fetches_5 1 rfl rfl)
theorem dX4_fetches_124 : decode cX4_fetches 124 = .ok (.return_, 1) := dk_177 (dk_at dksX4_fetches_5 4 rfl rfl)
theorem dX4_fetches_125 : decode cX4_fetches 125 = .ok (.aload_n 0, 1) := dk_42 (dk_at dksX4_fetches_5 5 rfl rfl)
theorem dX4_fetches_126 : decode cX4_fetches 126 = .ok (.aload_n 1, 1) := dk_43 (dk_at dksX4_fetches_5 6 rfl rfl)
theorem dX4_fetches_127 : decode cX4_fetches 127 = .ok (.iload_n 2, 1) := dk_28 (dk_at dksX4_fetches_5 7 rfl rfl)
theorem dX4_fetches_128 : decode cX4_fetches 128 = .ok (.iload_n 3, 1) := dk_29 (dk_at dksX4_fetches_5 8 rfl rfl)
theorem dX4_fetches_129 : decode cX4_fetches 129 = .ok (.invokevirtual 312, 3) := dk_182 1 56 (dk_at dksX4_fetches_5 9 rfl rfl)
theorem dX4_fetches_132 : decode cX4_fetches 132 = .ok (.istore 8, 2) := dk_54 8 (dk_at dksX4_fetches_5 12 rfl rfl)
theorem dX4_fetches_134 : decode cX4_fetches 134 = .ok (.aload_n 1, 1) := dk_43 (dk_at dksX4_fetches_5 14 rfl rfl)
theorem dX4_fetches_135 : decode cX4_fetches 135 = .ok (.sipush 493, 3) := dk_17 1 237 (dk_at dksX4_fetches_5 15 rfl rfl)
theorem dX4_fetches_138 : decode cX4_fetches 138 = .ok (.iaload, 1) := dk_46 (dk_at dksX4_fetches_5 18 rfl rfl)
theorem dX4_fetches_139 : decode cX4_fetches 139 = .ok (.invokestatic 236, 3) := dk_184 0 236 (dk_at dksX4_fetches_5 19 rfl rfl)
theorem dX4_fetches_142 : decode cX4_fetches 142 = .ok (.istore 9, 2) := dk_54 9 (dk_at dksX4_fetches_5 22 rfl rfl)
theorem dX4_fetches_144 : decode cX4_fetches 144 = .ok (.aload_n 1, 1) := dk_43 (dk_at dksX4_fetches_6 0 rfl rfl)
theorem dX4_fetches_145 : decode cX4_fetches 145 = .ok (.iload 9, 2) := dk_21 9 (dk_at dksX4_fetches_6 1 rfl rfl)
theorem dX4_fetches_147 : decode cX4_fetches 147 = .ok (.iconst 0, 1) := dk_3 (dk_at dksX4_fetches_6 3 rfl rfl)
theorem dX4_fetches_148 : decode cX4_fetches 148 = .ok (.iadd, 1) := dk_96 (dk_at dksX4_fetches_6 4 rfl rfl)
theorem dX4_fetches_149 : decode cX4_fetches 149 = .ok (.iload_n 2, 1) := dk_28 (dk_at dksX4_fetches_6 5 rfl rfl)
theorem dX4_fetches_150 : decode cX4_fetches 150 = .ok (.iastore, 1) := dk_79 (dk_at dksX4_fetches_6 6 rfl rfl)
theorem dX4_fetches_151 : decode cX4_fetches 151 = .ok (.aload_n 1, 1) := dk_43 (dk_at dksX4_fetches_6 7 rfl rfl)
theorem dX4_fetches_152 : decode cX4_fetches 152 = .ok (.iload 9, 2) := dk_21 9 (dk_at dksX4_fetches_6 8 rfl rfl)
theorem dX4_fetches_154 : decode cX4_fetches 154 = .ok (.iconst 1, 1) := dk_4 (dk_at dksX4_fetches_6 10 rfl rfl)
theorem dX4_fetches_155 : decode cX4_fetches 155 = .ok (.iadd, 1) := dk_96 (dk_at dksX4_fetches_6 11 rfl rfl)
theorem dX4_fetches_156 : decode cX4_fetches 156 = .ok (.iload_n 3, 1) := dk_29 (dk_at dksX4_fetches_6 12 rfl rfl)
theorem dX4_fetches_157 : decode cX4_fetches 157 = .ok (.invokestatic 315, 3) := dk_184 1 59 (dk_at dksX4_fetches_6 13 rfl rfl)
theorem dX4_fetches_160 : decode cX4_fetches 160 = .ok (.aload_n 1, 1) := dk_43 (dk_at dksX4_fetches_6 16 rfl rfl)
theorem dX4_fetches_161 : decode cX4_fetches 161 = .ok (.iload 9, 2) := dk_21 9 (dk_at dksX4_fetches_6 17 rfl rfl)
theorem dX4_fetches_163 : decode cX4_fetches 163 = .ok (.bipush 6, 2) := dk_16 6 (dk_at dksX4_fetches_6 19 rfl rfl)
theorem dX4_fetches_165 : decode cX4_fetches 165 = .ok (.iadd, 1) := dk_96 (dk_at dksX4_fetches_6 21 rfl rfl)
theorem dX4_fetches_166 : decode cX4_fetches 166 = .ok (.iconst 1, 1) := dk_4 (dk_at dksX4_fetches_6 22 rfl rfl)
theorem dX4_fetches_167 : decode cX4_fetches 167 = .ok (.iadd, 1) := dk_96 (dk_at dksX4_fetches_6 23 rfl rfl)
theorem dX4_fetches_168 : decode cX4_fetches 168 = .ok (.iconst (-1), 1) := dk_2 (dk_at dksX4_fetches_7 0 rfl rfl)
theorem dX4_fetches_169 : decode cX4_fetches 169 = .ok (.iastore, 1) := dk_79 (dk_at dksX4_fetches_7 1 rfl rfl)
theorem dX4_fetches_170 : decode cX4_fetches 170 = .ok (.iload 7, 2) := dk_21 7 (dk_at dksX4_fetches_7 2 rfl rfl)
theorem dX4_fetches_172 : decode cX4_fetches 172 = .ok (.ifCond .eq 18, 3) := dk_153 0 18 (dk_at dksX4_fetches_7 4 rfl rfl)
theorem dX4_fetches_175 : decode cX4_fetches 175 = .ok (.aload_n 1, 1) := dk_43 (dk_at dksX4_fetches_7 7 rfl rfl)
theorem dX4_fetches_176 : decode cX4_fetches 176 = .ok (.iload 9, 2) := dk_21 9 (dk_at dksX4_fetches_7 8 rfl rfl)
theorem dX4_fetches_178 : decode cX4_fetches 178 = .ok (.bipush 6, 2) := dk_16 6 (dk_at dksX4_fetches_7 10 rfl rfl)
theorem dX4_fetches_180 : decode cX4_fetches 180 = .ok (.iadd, 1) := dk_96 (dk_at dksX4_fetches_7 12 rfl rfl)
theorem dX4_fetches_181 : decode cX4_fetches 181 = .ok (.aload_n 0, 1) := dk_42 (dk_at dksX4_fetches_7 13 rfl rfl)
theorem dX4_fetches_182 : decode cX4_fetches 182 = .ok (.aload_n 1, 1) := dk_43 (dk_at dksX4_fetches_7 14 rfl rfl)
theorem dX4_fetches_183 : decode cX4_fetches 183 = .ok (.iload_n 2, 1) := dk_28 (dk_at dksX4_fetches_7 15 rfl rfl)
theorem dX4_fetches_184 : decode cX4_fetches 184 = .ok (.invokevirtual 309, 3) := dk_182 1 53 (dk_at dksX4_fetches_7 16 rfl rfl)
theorem dX4_fetches_187 : decode cX4_fetches 187 = .ok (.invokestatic 315, 3) := dk_184 1 59 (dk_at dksX4_fetches_7 19 rfl rfl)
theorem dX4_fetches_190 : decode cX4_fetches 190 = .ok (.aload_n 1, 1) := dk_43 (dk_at dksX4_fetches_7 22 rfl rfl)
theorem dX4_fetches_191 : decode cX4_fetches 191 = .ok (.iload 9, 2) := dk_21 9 (dk_at dksX4_fetches_8 0 rfl rfl)
theorem dX4_fetches_193 : decode cX4_fetches 193 = .ok (.bipush 11, 2) := dk_16 11 (dk_at dksX4_fetches_8 2 rfl rfl)
theorem dX4_fetches_195 : decode cX4_fetches 195 = .ok (.iadd, 1) := dk_96 (dk_at dksX4_fetches_8 4 rfl rfl)
theorem dX4_fetches_196 : decode cX4_fetches 196 = .ok (.iload 8, 2) := dk_21 8 (dk_at dksX4_fetches_8 5 rfl rfl)
theorem dX4_fetches_198 : decode cX4_fetches 198 = .ok (.iastore, 1) := dk_79 (dk_at dksX4_fetches_8 7 rfl rfl)
theorem dX4_fetches_199 : decode cX4_fetches 199 = .ok (.aload_n 1, 1) := dk_43 (dk_at dksX4_fetches_8 8 rfl rfl)
theorem dX4_fetches_200 : decode cX4_fetches 200 = .ok (.sipush 493, 3) := dk_17 1 237 (dk_at dksX4_fetches_8 9 rfl rfl)
theorem dX4_fetches_203 : decode cX4_fetches 203 = .ok (.dup2, 1) := dk_92 (dk_at dksX4_fetches_8 12 rfl rfl)
theorem dX4_fetches_204 : decode cX4_fetches 204 = .ok (.iaload, 1) := dk_46 (dk_at dksX4_fetches_8 13 rfl rfl)
theorem dX4_fetches_205 : decode cX4_fetches 205 = .ok (.iconst 1, 1) := dk_4 (dk_at dksX4_fetches_8 14 rfl rfl)
theorem dX4_fetches_206 : decode cX4_fetches 206 = .ok (.iadd, 1) := dk_96 (dk_at dksX4_fetches_8 15 rfl rfl)
theorem dX4_fetches_207 : decode cX4_fetches 207 = .ok (.iastore, 1) := dk_79 (dk_at dksX4_fetches_8 16 rfl rfl)
theorem dX4_fetches_208 : decode cX4_fetches 208 = .ok (.return_, 1) := dk_177 (dk_at dksX4_fetches_8 17 rfl rfl)
abbrev cX4_chosen : ByteArray := prog_13_method_59_code
def yX4_chosen : MethodName := ⟨RX4, "chosen", "([I)I"⟩
def dkwX4_chosen_3 : List UInt8 := [96, 92, 46, 4, 100, 79, 43, 17, 3, 54, 29, 96, 28, 79, 28, 172]
abbrev dktX4_chosen_3 : List UInt8 := dkwX4_chosen_3 ++ []
def dkwX4_chosen_2 : List UInt8 := [132, 4, 1, 167, 255, 231, 42, 43, 182, 1, 44, 62, 42, 43, 29, 182, 1, 41, 61, 43, 17, 3, 50, 29]
abbrev dktX4_chosen_2 : List UInt8 := dkwX4_chosen_2 ++ dktX4_chosen_3
def dkwX4_chosen_1 : List UInt8 := [21, 4, 7, 162, 0, 25, 43, 17, 3, 50, 21, 4, 96, 43, 17, 3, 46, 21, 4, 96, 46, 79]
abbrev dktX4_chosen_1 : List UInt8 := dkwX4_chosen_1 ++ dktX4_chosen_2
def dkwX4_chosen_0 : List UInt8 := [42, 43, 3, 182, 1, 41, 61, 3, 62, 28, 156, 0, 66, 42, 43, 182, 1, 44, 156, 0, 34, 4, 54, 4]
abbrev dktX4_chosen_0 : List UInt8 := dkwX4_chosen_0 ++ dktX4_chosen_1
theorem dksX4_chosen_0 : cX4_chosen.data.toList.drop 0 = dktX4_chosen_0 := by decide +kernel
theorem dksX4_chosen_1 : cX4_chosen.data.toList.drop 24 = dktX4_chosen_1 := dk_seg dksX4_chosen_0 24 rfl rfl
theorem dksX4_chosen_2 : cX4_chosen.data.toList.drop 46 = dktX4_chosen_2 := dk_seg dksX4_chosen_1 22 rfl rfl
theorem dksX4_chosen_3 : cX4_chosen.data.toList.drop 70 = dktX4_chosen_3 := dk_seg dksX4_chosen_2 24 rfl rfl
theorem dX4_chosen_0 : decode cX4_chosen 0 = .ok (.aload_n 0, 1) := dk_42 (dk_at dksX4_chosen_0 0 rfl rfl)
theorem dX4_chosen_1 : decode cX4_chosen 1 = .ok (.aload_n 1, 1) := dk_43 (dk_at dksX4_chosen_0 1 rfl rfl)
theorem dX4_chosen_2 : decode cX4_chosen 2 = .ok (.iconst 0, 1) := dk_3 (dk_at dksX4_chosen_0 2 rfl rfl)
theorem dX4_chosen_3 : decode cX4_chosen 3 = .ok (.invokevirtual 297, 3) := dk_182 1 41 (dk_at dksX4_chosen_0 3 rfl rfl)
theorem dX4_chosen_6 : decode cX4_chosen 6 = .ok (.istore_n 2, 1) := dk_61 (dk_at dksX4_chosen_0 6 rfl rfl)
theorem dX4_chosen_7 : decode cX4_chosen 7 = .ok (.iconst 0, 1) := dk_3 (dk_at dksX4_chosen_0 7 rfl rfl)
theorem dX4_chosen_8 : decode cX4_chosen 8 = .ok (.istore_n 3, 1) := dk_62 (dk_at dksX4_chosen_0 8 rfl rfl)
theorem dX4_chosen_9 : decode cX4_chosen 9 = .ok (.iload_n 2, 1) := dk_28 (dk_at dksX4_chosen_0 9 rfl rfl)
theorem dX4_chosen_10 : decode cX4_chosen 10 = .ok (.ifCond .ge 66, 3) := dk_156 0 66 (dk_at dksX4_chosen_0 10 rfl rfl)
theorem dX4_chosen_13 : decode cX4_chosen 13 = .ok (.aload_n 0, 1) := dk_42 (dk_at dksX4_chosen_0 13 rfl rfl)
theorem dX4_chosen_14 : decode cX4_chosen 14 = .ok (.aload_n 1, 1) := dk_43 (dk_at dksX4_chosen_0 14 rfl rfl)
theorem dX4_chosen_15 : decode cX4_chosen 15 = .ok (.invokevirtual 300, 3) := dk_182 1 44 (dk_at dksX4_chosen_0 15 rfl rfl)
theorem dX4_chosen_18 : decode cX4_chosen 18 = .ok (.ifCond .ge 34, 3) := dk_156 0 34 (dk_at dksX4_chosen_0 18 rfl rfl)
theorem dX4_chosen_21 : decode cX4_chosen 21 = .ok (.iconst 1, 1) := dk_4 (dk_at dksX4_chosen_0 21 rfl rfl)
theorem dX4_chosen_22 : decode cX4_chosen 22 = .ok (.istore 4, 2) := dk_54 4 (dk_at dksX4_chosen_0 22 rfl rfl)
theorem dX4_chosen_24 : decode cX4_chosen 24 = .ok (.iload 4, 2) := dk_21 4 (dk_at dksX4_chosen_1 0 rfl rfl)
theorem dX4_chosen_26 : decode cX4_chosen 26 = .ok (.iconst 4, 1) := dk_7 (dk_at dksX4_chosen_1 2 rfl rfl)
theorem dX4_chosen_27 : decode cX4_chosen 27 = .ok (.if_icmp .ge 25, 3) := dk_162 0 25 (dk_at dksX4_chosen_1 3 rfl rfl)
theorem dX4_chosen_30 : decode cX4_chosen 30 = .ok (.aload_n 1, 1) := dk_43 (dk_at dksX4_chosen_1 6 rfl rfl)
theorem dX4_chosen_31 : decode cX4_chosen 31 = .ok (.sipush 818, 3) := dk_17 3 50 (dk_at dksX4_chosen_1 7 rfl rfl)
theorem dX4_chosen_34 : decode cX4_chosen 34 = .ok (.iload 4, 2) := dk_21 4 (dk_at dksX4_chosen_1 10 rfl rfl)
theorem dX4_chosen_36 : decode cX4_chosen 36 = .ok (.iadd, 1) := dk_96 (dk_at dksX4_chosen_1 12 rfl rfl)
theorem dX4_chosen_37 : decode cX4_chosen 37 = .ok (.aload_n 1, 1) := dk_43 (dk_at dksX4_chosen_1 13 rfl rfl)
theorem dX4_chosen_38 : decode cX4_chosen 38 = .ok (.sipush 814, 3) := dk_17 3 46 (dk_at dksX4_chosen_1 14 rfl rfl)
theorem dX4_chosen_41 : decode cX4_chosen 41 = .ok (.iload 4, 2) := dk_21 4 (dk_at dksX4_chosen_1 17 rfl rfl)
theorem dX4_chosen_43 : decode cX4_chosen 43 = .ok (.iadd, 1) := dk_96 (dk_at dksX4_chosen_1 19 rfl rfl)
theorem dX4_chosen_44 : decode cX4_chosen 44 = .ok (.iaload, 1) := dk_46 (dk_at dksX4_chosen_1 20 rfl rfl)
theorem dX4_chosen_45 : decode cX4_chosen 45 = .ok (.iastore, 1) := dk_79 (dk_at dksX4_chosen_1 21 rfl rfl)
theorem dX4_chosen_46 : decode cX4_chosen 46 = .ok (.iinc 4 1, 3) := dk_132 4 1 (dk_at dksX4_chosen_2 0 rfl rfl)
theorem dX4_chosen_49 : decode cX4_chosen 49 = .ok (.goto (-25), 3) := dk_167 255 231 (dk_at dksX4_chosen_2 3 rfl rfl)
theorem dX4_chosen_52 : decode cX4_chosen 52 = .ok (.aload_n 0, 1) := dk_42 (dk_at dksX4_chosen_2 6 rfl rfl)
theorem dX4_chosen_53 : decode cX4_chosen 53 = .ok (.aload_n 1, 1) := dk_43 (dk_at dksX4_chosen_2 7 rfl rfl)
theorem dX4_chosen_54 : decode cX4_chosen 54 = .ok (.invokevirtual 300, 3) := dk_182 1 44 (dk_at dksX4_chosen_2 8 rfl rfl)
theorem dX4_chosen_57 : decode cX4_chosen 57 = .ok (.istore_n 3, 1) := dk_62 (dk_at dksX4_chosen_2 11 rfl rfl)
theorem dX4_chosen_58 : decode cX4_chosen 58 = .ok (.aload_n 0, 1) := dk_42 (dk_at dksX4_chosen_2 12 rfl rfl)
theorem dX4_chosen_59 : decode cX4_chosen 59 = .ok (.aload_n 1, 1) := dk_43 (dk_at dksX4_chosen_2 13 rfl rfl)
theorem dX4_chosen_60 : decode cX4_chosen 60 = .ok (.iload_n 3, 1) := dk_29 (dk_at dksX4_chosen_2 14 rfl rfl)
theorem dX4_chosen_61 : decode cX4_chosen 61 = .ok (.invokevirtual 297, 3) := dk_182 1 41 (dk_at dksX4_chosen_2 15 rfl rfl)
theorem dX4_chosen_64 : decode cX4_chosen 64 = .ok (.istore_n 2, 1) := dk_61 (dk_at dksX4_chosen_2 18 rfl rfl)
theorem dX4_chosen_65 : decode cX4_chosen 65 = .ok (.aload_n 1, 1) := dk_43 (dk_at dksX4_chosen_2 19 rfl rfl)
theorem dX4_chosen_66 : decode cX4_chosen 66 = .ok (.sipush 818, 3) := dk_17 3 50 (dk_at dksX4_chosen_2 20 rfl rfl)
theorem dX4_chosen_69 : decode cX4_chosen 69 = .ok (.iload_n 3, 1) := dk_29 (dk_at dksX4_chosen_2 23 rfl rfl)
theorem dX4_chosen_70 : decode cX4_chosen 70 = .ok (.iadd, 1) := dk_96 (dk_at dksX4_chosen_3 0 rfl rfl)
theorem dX4_chosen_71 : decode cX4_chosen 71 = .ok (.dup2, 1) := dk_92 (dk_at dksX4_chosen_3 1 rfl rfl)
theorem dX4_chosen_72 : decode cX4_chosen 72 = .ok (.iaload, 1) := dk_46 (dk_at dksX4_chosen_3 2 rfl rfl)
theorem dX4_chosen_73 : decode cX4_chosen 73 = .ok (.iconst 1, 1) := dk_4 (dk_at dksX4_chosen_3 3 rfl rfl)
theorem dX4_chosen_74 : decode cX4_chosen 74 = .ok (.isub, 1) := dk_100 (dk_at dksX4_chosen_3 4 rfl rfl)
theorem dX4_chosen_75 : decode cX4_chosen 75 = .ok (.iastore, 1) := dk_79 (dk_at dksX4_chosen_3 5 rfl rfl)
theorem dX4_chosen_76 : decode cX4_chosen 76 = .ok (.aload_n 1, 1) := dk_43 (dk_at dksX4_chosen_3 6 rfl rfl)
theorem dX4_chosen_77 : decode cX4_chosen 77 = .ok (.sipush 822, 3) := dk_17 3 54 (dk_at dksX4_chosen_3 7 rfl rfl)
theorem dX4_chosen_80 : decode cX4_chosen 80 = .ok (.iload_n 3, 1) := dk_29 (dk_at dksX4_chosen_3 10 rfl rfl)
theorem dX4_chosen_81 : decode cX4_chosen 81 = .ok (.iadd, 1) := dk_96 (dk_at dksX4_chosen_3 11 rfl rfl)
theorem dX4_chosen_82 : decode cX4_chosen 82 = .ok (.iload_n 2, 1) := dk_28 (dk_at dksX4_chosen_3 12 rfl rfl)
theorem dX4_chosen_83 : decode cX4_chosen 83 = .ok (.iastore, 1) := dk_79 (dk_at dksX4_chosen_3 13 rfl rfl)
theorem dX4_chosen_84 : decode cX4_chosen 84 = .ok (.iload_n 2, 1) := dk_28 (dk_at dksX4_chosen_3 14 rfl rfl)
theorem dX4_chosen_85 : decode cX4_chosen 85 = .ok (.ireturn, 1) := dk_172 (dk_at dksX4_chosen_3 15 rfl rfl)
abbrev cX4_behindLast : ByteArray := prog_13_method_56_code
def yX4_behindLast : MethodName := ⟨RX4, "behindLast", "([II)I"⟩
def dkwX4_behindLast_2 : List UInt8 := [153, 0, 6, 21, 4, 172, 132, 3, 1, 167, 255, 203, 2, 172]
abbrev dktX4_behindLast_2 : List UInt8 := dkwX4_behindLast_2 ++ []
def dkwX4_behindLast_1 : List UInt8 := [182, 0, 212, 153, 0, 26, 42, 180, 0, 140, 21, 4, 46, 28, 160, 0, 15, 43, 21, 4, 184, 1, 38]
abbrev dktX4_behindLast_1 : List UInt8 := dkwX4_behindLast_1 ++ dktX4_behindLast_2
def dkwX4_behindLast_0 : List UInt8 := [4, 62, 29, 8, 163, 0, 54, 43, 17, 3, 54, 28, 96, 46, 29, 96, 8, 112, 54, 4, 42, 21, 4]
abbrev dktX4_behindLast_0 : List UInt8 := dkwX4_behindLast_0 ++ dktX4_behindLast_1
theorem dksX4_behindLast_0 : cX4_behindLast.data.toList.drop 0 = dktX4_behindLast_0 := by decide +kernel
theorem dksX4_behindLast_1 : cX4_behindLast.data.toList.drop 23 = dktX4_behindLast_1 := dk_seg dksX4_behindLast_0 23 rfl rfl
theorem dksX4_behindLast_2 : cX4_behindLast.data.toList.drop 46 = dktX4_behindLast_2 := dk_seg dksX4_behindLast_1 23 rfl rfl
theorem dX4_behindLast_0 : decode cX4_behindLast 0 = .ok (.iconst 1, 1) := dk_4 (dk_at dksX4_behindLast_0 0 rfl rfl)
theorem dX4_behindLast_1 : decode cX4_behindLast 1 = .ok (.istore_n 3, 1) := dk_62 (dk_at dksX4_behindLast_0 1 rfl rfl)
theorem dX4_behindLast_2 : decode cX4_behindLast 2 = .ok (.iload_n 3, 1) := dk_29 (dk_at dksX4_behindLast_0 2 rfl rfl)
theorem dX4_behindLast_3 : decode cX4_behindLast 3 = .ok (.iconst 5, 1) := dk_8 (dk_at dksX4_behindLast_0 3 rfl rfl)
theorem dX4_behindLast_4 : decode cX4_behindLast 4 = .ok (.if_icmp .gt 54, 3) := dk_163 0 54 (dk_at dksX4_behindLast_0 4 rfl rfl)
theorem dX4_behindLast_7 : decode cX4_behindLast 7 = .ok (.aload_n 1, 1) := dk_43 (dk_at dksX4_behindLast_0 7 rfl rfl)
theorem dX4_behindLast_8 : decode cX4_behindLast 8 = .ok (.sipush 822, 3) := dk_17 3 54 (dk_at dksX4_behindLast_0 8 rfl rfl)
theorem dX4_behindLast_11 : decode cX4_behindLast 11 = .ok (.iload_n 2, 1) := dk_28 (dk_at dksX4_behindLast_0 11 rfl rfl)
theorem dX4_behindLast_12 : decode cX4_behindLast 12 = .ok (.iadd, 1) := dk_96 (dk_at dksX4_behindLast_0 12 rfl rfl)
theorem dX4_behindLast_13 : decode cX4_behindLast 13 = .ok (.iaload, 1) := dk_46 (dk_at dksX4_behindLast_0 13 rfl rfl)
theorem dX4_behindLast_14 : decode cX4_behindLast 14 = .ok (.iload_n 3, 1) := dk_29 (dk_at dksX4_behindLast_0 14 rfl rfl)
theorem dX4_behindLast_15 : decode cX4_behindLast 15 = .ok (.iadd, 1) := dk_96 (dk_at dksX4_behindLast_0 15 rfl rfl)
theorem dX4_behindLast_16 : decode cX4_behindLast 16 = .ok (.iconst 5, 1) := dk_8 (dk_at dksX4_behindLast_0 16 rfl rfl)
theorem dX4_behindLast_17 : decode cX4_behindLast 17 = .ok (.irem, 1) := dk_112 (dk_at dksX4_behindLast_0 17 rfl rfl)
theorem dX4_behindLast_18 : decode cX4_behindLast 18 = .ok (.istore 4, 2) := dk_54 4 (dk_at dksX4_behindLast_0 18 rfl rfl)
theorem dX4_behindLast_20 : decode cX4_behindLast 20 = .ok (.aload_n 0, 1) := dk_42 (dk_at dksX4_behindLast_0 20 rfl rfl)
theorem dX4_behindLast_21 : decode cX4_behindLast 21 = .ok (.iload 4, 2) := dk_21 4 (dk_at dksX4_behindLast_0 21 rfl rfl)
theorem dX4_behindLast_23 : decode cX4_behindLast 23 = .ok (.invokevirtual 212, 3) := dk_182 0 212 (dk_at dksX4_behindLast_1 0 rfl rfl)
theorem dX4_behindLast_26 : decode cX4_behindLast 26 = .ok (.ifCond .eq 26, 3) := dk_153 0 26 (dk_at dksX4_behindLast_1 3 rfl rfl)
theorem dX4_behindLast_29 : decode cX4_behindLast 29 = .ok (.aload_n 0, 1) := dk_42 (dk_at dksX4_behindLast_1 6 rfl rfl)
theorem dX4_behindLast_30 : decode cX4_behindLast 30 = .ok (.getfield 140, 3) := dk_180 0 140 (dk_at dksX4_behindLast_1 7 rfl rfl)
theorem dX4_behindLast_33 : decode cX4_behindLast 33 = .ok (.iload 4, 2) := dk_21 4 (dk_at dksX4_behindLast_1 10 rfl rfl)
theorem dX4_behindLast_35 : decode cX4_behindLast 35 = .ok (.iaload, 1) := dk_46 (dk_at dksX4_behindLast_1 12 rfl rfl)
theorem dX4_behindLast_36 : decode cX4_behindLast 36 = .ok (.iload_n 2, 1) := dk_28 (dk_at dksX4_behindLast_1 13 rfl rfl)
theorem dX4_behindLast_37 : decode cX4_behindLast 37 = .ok (.if_icmp .ne 15, 3) := dk_160 0 15 (dk_at dksX4_behindLast_1 14 rfl rfl)
theorem dX4_behindLast_40 : decode cX4_behindLast 40 = .ok (.aload_n 1, 1) := dk_43 (dk_at dksX4_behindLast_1 17 rfl rfl)
theorem dX4_behindLast_41 : decode cX4_behindLast 41 = .ok (.iload 4, 2) := dk_21 4 (dk_at dksX4_behindLast_1 18 rfl rfl)
theorem dX4_behindLast_43 : decode cX4_behindLast 43 = .ok (.invokestatic 294, 3) := dk_184 1 38 (dk_at dksX4_behindLast_1 20 rfl rfl)
theorem dX4_behindLast_46 : decode cX4_behindLast 46 = .ok (.ifCond .eq 6, 3) := dk_153 0 6 (dk_at dksX4_behindLast_2 0 rfl rfl)
theorem dX4_behindLast_49 : decode cX4_behindLast 49 = .ok (.iload 4, 2) := dk_21 4 (dk_at dksX4_behindLast_2 3 rfl rfl)
theorem dX4_behindLast_51 : decode cX4_behindLast 51 = .ok (.ireturn, 1) := dk_172 (dk_at dksX4_behindLast_2 5 rfl rfl)
theorem dX4_behindLast_52 : decode cX4_behindLast 52 = .ok (.iinc 3 1, 3) := dk_132 3 1 (dk_at dksX4_behindLast_2 6 rfl rfl)
theorem dX4_behindLast_55 : decode cX4_behindLast 55 = .ok (.goto (-53), 3) := dk_167 255 203 (dk_at dksX4_behindLast_2 9 rfl rfl)
theorem dX4_behindLast_58 : decode cX4_behindLast 58 = .ok (.iconst (-1), 1) := dk_2 (dk_at dksX4_behindLast_2 12 rfl rfl)
theorem dX4_behindLast_59 : decode cX4_behindLast 59 = .ok (.ireturn, 1) := dk_172 (dk_at dksX4_behindLast_2 13 rfl rfl)
abbrev cX4_creditClass : ByteArray := prog_13_method_57_code
def yX4_creditClass : MethodName := ⟨RX4, "creditClass", "([I)I"⟩
def dkwX4_creditClass_1 : List UInt8 := [155, 0, 5, 28, 172, 132, 2, 1, 167, 255, 227, 2, 172]
abbrev dktX4_creditClass_1 : List UInt8 := dkwX4_creditClass_1 ++ []
def dkwX4_creditClass_0 : List UInt8 := [4, 61, 28, 7, 162, 0, 30, 43, 17, 3, 50, 28, 96, 46, 158, 0, 14, 42, 43, 28, 182, 1, 41]
abbrev dktX4_creditClass_0 : List UInt8 := dkwX4_creditClass_0 ++ dktX4_creditClass_1
theorem dksX4_creditClass_0 : cX4_creditClass.data.toList.drop 0 = dktX4_creditClass_0 := by decide +kernel
theorem dksX4_creditClass_1 : cX4_creditClass.data.toList.drop 23 = dktX4_creditClass_1 := dk_seg dksX4_creditClass_0 23 rfl rfl
theorem dX4_creditClass_0 : decode cX4_creditClass 0 = .ok (.iconst 1, 1) := dk_4 (dk_at dksX4_creditClass_0 0 rfl rfl)
theorem dX4_creditClass_1 : decode cX4_creditClass 1 = .ok (.istore_n 2, 1) := dk_61 (dk_at dksX4_creditClass_0 1 rfl rfl)
theorem dX4_creditClass_2 : decode cX4_creditClass 2 = .ok (.iload_n 2, 1) := dk_28 (dk_at dksX4_creditClass_0 2 rfl rfl)
theorem dX4_creditClass_3 : decode cX4_creditClass 3 = .ok (.iconst 4, 1) := dk_7 (dk_at dksX4_creditClass_0 3 rfl rfl)
theorem dX4_creditClass_4 : decode cX4_creditClass 4 = .ok (.if_icmp .ge 30, 3) := dk_162 0 30 (dk_at dksX4_creditClass_0 4 rfl rfl)
theorem dX4_creditClass_7 : decode cX4_creditClass 7 = .ok (.aload_n 1, 1) := dk_43 (dk_at dksX4_creditClass_0 7 rfl rfl)
theorem dX4_creditClass_8 : decode cX4_creditClass 8 = .ok (.sipush 818, 3) := dk_17 3 50 (dk_at dksX4_creditClass_0 8 rfl rfl)
theorem dX4_creditClass_11 : decode cX4_creditClass 11 = .ok (.iload_n 2, 1) := dk_28 (dk_at dksX4_creditClass_0 11 rfl rfl)
theorem dX4_creditClass_12 : decode cX4_creditClass 12 = .ok (.iadd, 1) := dk_96 (dk_at dksX4_creditClass_0 12 rfl rfl)
theorem dX4_creditClass_13 : decode cX4_creditClass 13 = .ok (.iaload, 1) := dk_46 (dk_at dksX4_creditClass_0 13 rfl rfl)
theorem dX4_creditClass_14 : decode cX4_creditClass 14 = .ok (.ifCond .le 14, 3) := dk_158 0 14 (dk_at dksX4_creditClass_0 14 rfl rfl)
theorem dX4_creditClass_17 : decode cX4_creditClass 17 = .ok (.aload_n 0, 1) := dk_42 (dk_at dksX4_creditClass_0 17 rfl rfl)
theorem dX4_creditClass_18 : decode cX4_creditClass 18 = .ok (.aload_n 1, 1) := dk_43 (dk_at dksX4_creditClass_0 18 rfl rfl)
theorem dX4_creditClass_19 : decode cX4_creditClass 19 = .ok (.iload_n 2, 1) := dk_28 (dk_at dksX4_creditClass_0 19 rfl rfl)
theorem dX4_creditClass_20 : decode cX4_creditClass 20 = .ok (.invokevirtual 297, 3) := dk_182 1 41 (dk_at dksX4_creditClass_0 20 rfl rfl)
theorem dX4_creditClass_23 : decode cX4_creditClass 23 = .ok (.ifCond .lt 5, 3) := dk_155 0 5 (dk_at dksX4_creditClass_1 0 rfl rfl)
theorem dX4_creditClass_26 : decode cX4_creditClass 26 = .ok (.iload_n 2, 1) := dk_28 (dk_at dksX4_creditClass_1 3 rfl rfl)
theorem dX4_creditClass_27 : decode cX4_creditClass 27 = .ok (.ireturn, 1) := dk_172 (dk_at dksX4_creditClass_1 4 rfl rfl)
theorem dX4_creditClass_28 : decode cX4_creditClass 28 = .ok (.iinc 2 1, 3) := dk_132 2 1 (dk_at dksX4_creditClass_1 5 rfl rfl)
theorem dX4_creditClass_31 : decode cX4_creditClass 31 = .ok (.goto (-29), 3) := dk_167 255 227 (dk_at dksX4_creditClass_1 8 rfl rfl)
theorem dX4_creditClass_34 : decode cX4_creditClass 34 = .ok (.iconst (-1), 1) := dk_2 (dk_at dksX4_creditClass_1 11 rfl rfl)
theorem dX4_creditClass_35 : decode cX4_creditClass 35 = .ok (.ireturn, 1) := dk_172 (dk_at dksX4_creditClass_1 12 rfl rfl)
abbrev cX4_fetchedOf : ByteArray := prog_13_method_61_code
def yX4_fetchedOf : MethodName := ⟨RX4, "fetchedOf", "([II)I"⟩
def dkwX4_fetchedOf_1 : List UInt8 := [184, 1, 22, 43, 17, 3, 72, 42, 180, 0, 140, 28, 46, 96, 92, 46, 4, 96, 79, 29, 172]
abbrev dktX4_fetchedOf_1 : List UInt8 := dkwX4_fetchedOf_1 ++ []
def dkwX4_fetchedOf_0 : List UInt8 := [28, 43, 28, 6, 184, 0, 220, 184, 0, 239, 62, 43, 28, 6, 43, 28, 6, 184, 0, 220, 4, 96]
abbrev dktX4_fetchedOf_0 : List UInt8 := dkwX4_fetchedOf_0 ++ dktX4_fetchedOf_1
theorem dksX4_fetchedOf_0 : cX4_fetchedOf.data.toList.drop 0 = dktX4_fetchedOf_0 := by decide +kernel
theorem dksX4_fetchedOf_1 : cX4_fetchedOf.data.toList.drop 22 = dktX4_fetchedOf_1 := dk_seg dksX4_fetchedOf_0 22 rfl rfl
theorem dX4_fetchedOf_0 : decode cX4_fetchedOf 0 = .ok (.iload_n 2, 1) := dk_28 (dk_at dksX4_fetchedOf_0 0 rfl rfl)
theorem dX4_fetchedOf_1 : decode cX4_fetchedOf 1 = .ok (.aload_n 1, 1) := dk_43 (dk_at dksX4_fetchedOf_0 1 rfl rfl)
theorem dX4_fetchedOf_2 : decode cX4_fetchedOf 2 = .ok (.iload_n 2, 1) := dk_28 (dk_at dksX4_fetchedOf_0 2 rfl rfl)
theorem dX4_fetchedOf_3 : decode cX4_fetchedOf 3 = .ok (.iconst 3, 1) := dk_6 (dk_at dksX4_fetchedOf_0 3 rfl rfl)
theorem dX4_fetchedOf_4 : decode cX4_fetchedOf 4 = .ok (.invokestatic 220, 3) := dk_184 0 220 (dk_at dksX4_fetchedOf_0 4 rfl rfl)
theorem dX4_fetchedOf_7 : decode cX4_fetchedOf 7 = .ok (.invokestatic 239, 3) := dk_184 0 239 (dk_at dksX4_fetchedOf_0 7 rfl rfl)
theorem dX4_fetchedOf_10 : decode cX4_fetchedOf 10 = .ok (.istore_n 3, 1) := dk_62 (dk_at dksX4_fetchedOf_0 10 rfl rfl)
theorem dX4_fetchedOf_11 : decode cX4_fetchedOf 11 = .ok (.aload_n 1, 1) := dk_43 (dk_at dksX4_fetchedOf_0 11 rfl rfl)
theorem dX4_fetchedOf_12 : decode cX4_fetchedOf 12 = .ok (.iload_n 2, 1) := dk_28 (dk_at dksX4_fetchedOf_0 12 rfl rfl)
theorem dX4_fetchedOf_13 : decode cX4_fetchedOf 13 = .ok (.iconst 3, 1) := dk_6 (dk_at dksX4_fetchedOf_0 13 rfl rfl)
theorem dX4_fetchedOf_14 : decode cX4_fetchedOf 14 = .ok (.aload_n 1, 1) := dk_43 (dk_at dksX4_fetchedOf_0 14 rfl rfl)
theorem dX4_fetchedOf_15 : decode cX4_fetchedOf 15 = .ok (.iload_n 2, 1) := dk_28 (dk_at dksX4_fetchedOf_0 15 rfl rfl)
theorem dX4_fetchedOf_16 : decode cX4_fetchedOf 16 = .ok (.iconst 3, 1) := dk_6 (dk_at dksX4_fetchedOf_0 16 rfl rfl)
theorem dX4_fetchedOf_17 : decode cX4_fetchedOf 17 = .ok (.invokestatic 220, 3) := dk_184 0 220 (dk_at dksX4_fetchedOf_0 17 rfl rfl)
theorem dX4_fetchedOf_20 : decode cX4_fetchedOf 20 = .ok (.iconst 1, 1) := dk_4 (dk_at dksX4_fetchedOf_0 20 rfl rfl)
theorem dX4_fetchedOf_21 : decode cX4_fetchedOf 21 = .ok (.iadd, 1) := dk_96 (dk_at dksX4_fetchedOf_0 21 rfl rfl)
theorem dX4_fetchedOf_22 : decode cX4_fetchedOf 22 = .ok (.invokestatic 278, 3) := dk_184 1 22 (dk_at dksX4_fetchedOf_1 0 rfl rfl)
theorem dX4_fetchedOf_25 : decode cX4_fetchedOf 25 = .ok (.aload_n 1, 1) := dk_43 (dk_at dksX4_fetchedOf_1 3 rfl rfl)
theorem dX4_fetchedOf_26 : decode cX4_fetchedOf 26 = .ok (.sipush 840, 3) := dk_17 3 72 (dk_at dksX4_fetchedOf_1 4 rfl rfl)
theorem dX4_fetchedOf_29 : decode cX4_fetchedOf 29 = .ok (.aload_n 0, 1) := dk_42 (dk_at dksX4_fetchedOf_1 7 rfl rfl)
theorem dX4_fetchedOf_30 : decode cX4_fetchedOf 30 = .ok (.getfield 140, 3) := dk_180 0 140 (dk_at dksX4_fetchedOf_1 8 rfl rfl)
theorem dX4_fetchedOf_33 : decode cX4_fetchedOf 33 = .ok (.iload_n 2, 1) := dk_28 (dk_at dksX4_fetchedOf_1 11 rfl rfl)
theorem dX4_fetchedOf_34 : decode cX4_fetchedOf 34 = .ok (.iaload, 1) := dk_46 (dk_at dksX4_fetchedOf_1 12 rfl rfl)
theorem dX4_fetchedOf_35 : decode cX4_fetchedOf 35 = .ok (.iadd, 1) := dk_96 (dk_at dksX4_fetchedOf_1 13 rfl rfl)
theorem dX4_fetchedOf_36 : decode cX4_fetchedOf 36 = .ok (.dup2, 1) := dk_92 (dk_at dksX4_fetchedOf_1 14 rfl rfl)
theorem dX4_fetchedOf_37 : decode cX4_fetchedOf 37 = .ok (.iaload, 1) := dk_46 (dk_at dksX4_fetchedOf_1 15 rfl rfl)
theorem dX4_fetchedOf_38 : decode cX4_fetchedOf 38 = .ok (.iconst 1, 1) := dk_4 (dk_at dksX4_fetchedOf_1 16 rfl rfl)
theorem dX4_fetchedOf_39 : decode cX4_fetchedOf 39 = .ok (.iadd, 1) := dk_96 (dk_at dksX4_fetchedOf_1 17 rfl rfl)
theorem dX4_fetchedOf_40 : decode cX4_fetchedOf 40 = .ok (.iastore, 1) := dk_79 (dk_at dksX4_fetchedOf_1 18 rfl rfl)
theorem dX4_fetchedOf_41 : decode cX4_fetchedOf 41 = .ok (.iload_n 3, 1) := dk_29 (dk_at dksX4_fetchedOf_1 19 rfl rfl)
theorem dX4_fetchedOf_42 : decode cX4_fetchedOf 42 = .ok (.ireturn, 1) := dk_172 (dk_at dksX4_fetchedOf_1 20 rfl rfl)
abbrev cX4_timeOf : ByteArray := prog_13_method_60_code
def yX4_timeOf : MethodName := ⟨RX4, "timeOf", "([III)I"⟩
def dkwX4_timeOf_3 : List UInt8 := [17, 3, 59, 46, 16, 7, 112, 79, 4, 16, 9, 42, 182, 1, 47, 184, 0, 31, 184, 0, 226, 172]
abbrev dktX4_timeOf_3 : List UInt8 := dkwX4_timeOf_3 ++ []
def dkwX4_timeOf_2 : List UInt8 := [180, 0, 140, 28, 46, 79, 42, 180, 0, 125, 8, 43, 17, 1, 237, 46, 79, 42, 180, 0, 125, 16, 6, 43]
abbrev dktX4_timeOf_2 : List UInt8 := dkwX4_timeOf_2 ++ dktX4_timeOf_3
def dkwX4_timeOf_1 : List UInt8 := [180, 0, 125, 5, 43, 29, 6, 96, 46, 79, 42, 180, 0, 125, 6, 28, 79, 42, 180, 0, 125, 7, 42]
abbrev dktX4_timeOf_1 : List UInt8 := dkwX4_timeOf_1 ++ dktX4_timeOf_2
def dkwX4_timeOf_0 : List UInt8 := [42, 180, 0, 125, 3, 43, 29, 4, 96, 46, 79, 42, 180, 0, 125, 4, 43, 29, 5, 96, 46, 79, 42]
abbrev dktX4_timeOf_0 : List UInt8 := dkwX4_timeOf_0 ++ dktX4_timeOf_1
theorem dksX4_timeOf_0 : cX4_timeOf.data.toList.drop 0 = dktX4_timeOf_0 := by decide +kernel
theorem dksX4_timeOf_1 : cX4_timeOf.data.toList.drop 23 = dktX4_timeOf_1 := dk_seg dksX4_timeOf_0 23 rfl rfl
theorem dksX4_timeOf_2 : cX4_timeOf.data.toList.drop 46 = dktX4_timeOf_2 := dk_seg dksX4_timeOf_1 23 rfl rfl
theorem dksX4_timeOf_3 : cX4_timeOf.data.toList.drop 70 = dktX4_timeOf_3 := dk_seg dksX4_timeOf_2 24 rfl rfl
theorem dX4_timeOf_0 : decode cX4_timeOf 0 = .ok (.aload_n 0, 1) := dk_42 (dk_at dksX4_timeOf_0 0 rfl rfl)
theorem dX4_timeOf_1 : decode cX4_timeOf 1 = .ok (.getfield 125, 3) := dk_180 0 125 (dk_at dksX4_timeOf_0 1 rfl rfl)
theorem dX4_timeOf_4 : decode cX4_timeOf 4 = .ok (.iconst 0, 1) := dk_3 (dk_at dksX4_timeOf_0 4 rfl rfl)
theorem dX4_timeOf_5 : decode cX4_timeOf 5 = .ok (.aload_n 1, 1) := dk_43 (dk_at dksX4_timeOf_0 5 rfl rfl)
theorem dX4_timeOf_6 : decode cX4_timeOf 6 = .ok (.iload_n 3, 1) := dk_29 (dk_at dksX4_timeOf_0 6 rfl rfl)
theorem dX4_timeOf_7 : decode cX4_timeOf 7 = .ok (.iconst 1, 1) := dk_4 (dk_at dksX4_timeOf_0 7 rfl rfl)
theorem dX4_timeOf_8 : decode cX4_timeOf 8 = .ok (.iadd, 1) := dk_96 (dk_at dksX4_timeOf_0 8 rfl rfl)
theorem dX4_timeOf_9 : decode cX4_timeOf 9 = .ok (.iaload, 1) := dk_46 (dk_at dksX4_timeOf_0 9 rfl rfl)
theorem dX4_timeOf_10 : decode cX4_timeOf 10 = .ok (.iastore, 1) := dk_79 (dk_at dksX4_timeOf_0 10 rfl rfl)
theorem dX4_timeOf_11 : decode cX4_timeOf 11 = .ok (.aload_n 0, 1) := dk_42 (dk_at dksX4_timeOf_0 11 rfl rfl)
theorem dX4_timeOf_12 : decode cX4_timeOf 12 = .ok (.getfield 125, 3) := dk_180 0 125 (dk_at dksX4_timeOf_0 12 rfl rfl)
theorem dX4_timeOf_15 : decode cX4_timeOf 15 = .ok (.iconst 1, 1) := dk_4 (dk_at dksX4_timeOf_0 15 rfl rfl)
theorem dX4_timeOf_16 : decode cX4_timeOf 16 = .ok (.aload_n 1, 1) := dk_43 (dk_at dksX4_timeOf_0 16 rfl rfl)
theorem dX4_timeOf_17 : decode cX4_timeOf 17 = .ok (.iload_n 3, 1) := dk_29 (dk_at dksX4_timeOf_0 17 rfl rfl)
theorem dX4_timeOf_18 : decode cX4_timeOf 18 = .ok (.iconst 2, 1) := dk_5 (dk_at dksX4_timeOf_0 18 rfl rfl)
theorem dX4_timeOf_19 : decode cX4_timeOf 19 = .ok (.iadd, 1) := dk_96 (dk_at dksX4_timeOf_0 19 rfl rfl)
theorem dX4_timeOf_20 : decode cX4_timeOf 20 = .ok (.iaload, 1) := dk_46 (dk_at dksX4_timeOf_0 20 rfl rfl)
theorem dX4_timeOf_21 : decode cX4_timeOf 21 = .ok (.iastore, 1) := dk_79 (dk_at dksX4_timeOf_0 21 rfl rfl)
theorem dX4_timeOf_22 : decode cX4_timeOf 22 = .ok (.aload_n 0, 1) := dk_42 (dk_at dksX4_timeOf_0 22 rfl rfl)
theorem dX4_timeOf_23 : decode cX4_timeOf 23 = .ok (.getfield 125, 3) := dk_180 0 125 (dk_at dksX4_timeOf_1 0 rfl rfl)
theorem dX4_timeOf_26 : decode cX4_timeOf 26 = .ok (.iconst 2, 1) := dk_5 (dk_at dksX4_timeOf_1 3 rfl rfl)
theorem dX4_timeOf_27 : decode cX4_timeOf 27 = .ok (.aload_n 1, 1) := dk_43 (dk_at dksX4_timeOf_1 4 rfl rfl)
theorem dX4_timeOf_28 : decode cX4_timeOf 28 = .ok (.iload_n 3, 1) := dk_29 (dk_at dksX4_timeOf_1 5 rfl rfl)
theorem dX4_timeOf_29 : decode cX4_timeOf 29 = .ok (.iconst 3, 1) := dk_6 (dk_at dksX4_timeOf_1 6 rfl rfl)
theorem dX4_timeOf_30 : decode cX4_timeOf 30 = .ok (.iadd, 1) := dk_96 (dk_at dksX4_timeOf_1 7 rfl rfl)
theorem dX4_timeOf_31 : decode cX4_timeOf 31 = .ok (.iaload, 1) := dk_46 (dk_at dksX4_timeOf_1 8 rfl rfl)
theorem dX4_timeOf_32 : decode cX4_timeOf 32 = .ok (.iastore, 1) := dk_79 (dk_at dksX4_timeOf_1 9 rfl rfl)
theorem dX4_timeOf_33 : decode cX4_timeOf 33 = .ok (.aload_n 0, 1) := dk_42 (dk_at dksX4_timeOf_1 10 rfl rfl)
theorem dX4_timeOf_34 : decode cX4_timeOf 34 = .ok (.getfield 125, 3) := dk_180 0 125 (dk_at dksX4_timeOf_1 11 rfl rfl)
theorem dX4_timeOf_37 : decode cX4_timeOf 37 = .ok (.iconst 3, 1) := dk_6 (dk_at dksX4_timeOf_1 14 rfl rfl)
theorem dX4_timeOf_38 : decode cX4_timeOf 38 = .ok (.iload_n 2, 1) := dk_28 (dk_at dksX4_timeOf_1 15 rfl rfl)
theorem dX4_timeOf_39 : decode cX4_timeOf 39 = .ok (.iastore, 1) := dk_79 (dk_at dksX4_timeOf_1 16 rfl rfl)
theorem dX4_timeOf_40 : decode cX4_timeOf 40 = .ok (.aload_n 0, 1) := dk_42 (dk_at dksX4_timeOf_1 17 rfl rfl)
theorem dX4_timeOf_41 : decode cX4_timeOf 41 = .ok (.getfield 125, 3) := dk_180 0 125 (dk_at dksX4_timeOf_1 18 rfl rfl)
theorem dX4_timeOf_44 : decode cX4_timeOf 44 = .ok (.iconst 4, 1) := dk_7 (dk_at dksX4_timeOf_1 21 rfl rfl)
theorem dX4_timeOf_45 : decode cX4_timeOf 45 = .ok (.aload_n 0, 1) := dk_42 (dk_at dksX4_timeOf_1 22 rfl rfl)
theorem dX4_timeOf_46 : decode cX4_timeOf 46 = .ok (.getfield 140, 3) := dk_180 0 140 (dk_at dksX4_timeOf_2 0 rfl rfl)
theorem dX4_timeOf_49 : decode cX4_timeOf 49 = .ok (.iload_n 2, 1) := dk_28 (dk_at dksX4_timeOf_2 3 rfl rfl)
theorem dX4_timeOf_50 : decode cX4_timeOf 50 = .ok (.iaload, 1) := dk_46 (dk_at dksX4_timeOf_2 4 rfl rfl)
theorem dX4_timeOf_51 : decode cX4_timeOf 51 = .ok (.iastore, 1) := dk_79 (dk_at dksX4_timeOf_2 5 rfl rfl)
theorem dX4_timeOf_52 : decode cX4_timeOf 52 = .ok (.aload_n 0, 1) := dk_42 (dk_at dksX4_timeOf_2 6 rfl rfl)
theorem dX4_timeOf_53 : decode cX4_timeOf 53 = .ok (.getfield 125, 3) := dk_180 0 125 (dk_at dksX4_timeOf_2 7 rfl rfl)
theorem dX4_timeOf_56 : decode cX4_timeOf 56 = .ok (.iconst 5, 1) := dk_8 (dk_at dksX4_timeOf_2 10 rfl rfl)
theorem dX4_timeOf_57 : decode cX4_timeOf 57 = .ok (.aload_n 1, 1) := dk_43 (dk_at dksX4_timeOf_2 11 rfl rfl)
theorem dX4_timeOf_58 : decode cX4_timeOf 58 = .ok (.sipush 493, 3) := dk_17 1 237 (dk_at dksX4_timeOf_2 12 rfl rfl)
theorem dX4_timeOf_61 : decode cX4_timeOf 61 = .ok (.iaload, 1) := dk_46 (dk_at dksX4_timeOf_2 15 rfl rfl)
theorem dX4_timeOf_62 : decode cX4_timeOf 62 = .ok (.iastore, 1) := dk_79 (dk_at dksX4_timeOf_2 16 rfl rfl)
theorem dX4_timeOf_63 : decode cX4_timeOf 63 = .ok (.aload_n 0, 1) := dk_42 (dk_at dksX4_timeOf_2 17 rfl rfl)
theorem dX4_timeOf_64 : decode cX4_timeOf 64 = .ok (.getfield 125, 3) := dk_180 0 125 (dk_at dksX4_timeOf_2 18 rfl rfl)
theorem dX4_timeOf_67 : decode cX4_timeOf 67 = .ok (.bipush 6, 2) := dk_16 6 (dk_at dksX4_timeOf_2 21 rfl rfl)
theorem dX4_timeOf_69 : decode cX4_timeOf 69 = .ok (.aload_n 1, 1) := dk_43 (dk_at dksX4_timeOf_2 23 rfl rfl)
theorem dX4_timeOf_70 : decode cX4_timeOf 70 = .ok (.sipush 827, 3) := dk_17 3 59 (dk_at dksX4_timeOf_3 0 rfl rfl)
theorem dX4_timeOf_73 : decode cX4_timeOf 73 = .ok (.iaload, 1) := dk_46 (dk_at dksX4_timeOf_3 3 rfl rfl)
theorem dX4_timeOf_74 : decode cX4_timeOf 74 = .ok (.bipush 7, 2) := dk_16 7 (dk_at dksX4_timeOf_3 4 rfl rfl)
theorem dX4_timeOf_76 : decode cX4_timeOf 76 = .ok (.irem, 1) := dk_112 (dk_at dksX4_timeOf_3 6 rfl rfl)
theorem dX4_timeOf_77 : decode cX4_timeOf 77 = .ok (.iastore, 1) := dk_79 (dk_at dksX4_timeOf_3 7 rfl rfl)
theorem dX4_timeOf_78 : decode cX4_timeOf 78 = .ok (.iconst 1, 1) := dk_4 (dk_at dksX4_timeOf_3 8 rfl rfl)
theorem dX4_timeOf_79 : decode cX4_timeOf 79 = .ok (.bipush 9, 2) := dk_16 9 (dk_at dksX4_timeOf_3 9 rfl rfl)
theorem dX4_timeOf_81 : decode cX4_timeOf 81 = .ok (.aload_n 0, 1) := dk_42 (dk_at dksX4_timeOf_3 11 rfl rfl)
theorem dX4_timeOf_82 : decode cX4_timeOf 82 = .ok (.invokevirtual 303, 3) := dk_182 1 47 (dk_at dksX4_timeOf_3 12 rfl rfl)
theorem dX4_timeOf_85 : decode cX4_timeOf 85 = .ok (.invokestatic 31, 3) := dk_184 0 31 (dk_at dksX4_timeOf_3 15 rfl rfl)
theorem dX4_timeOf_88 : decode cX4_timeOf 88 = .ok (.invokestatic 226, 3) := dk_184 0 226 (dk_at dksX4_timeOf_3 18 rfl rfl)
theorem dX4_timeOf_91 : decode cX4_timeOf 91 = .ok (.ireturn, 1) := dk_172 (dk_at dksX4_timeOf_3 21 rfl rfl)
abbrev cX4_ruled : ByteArray := prog_13_method_23_code
def yX4_ruled : MethodName := ⟨RX4, "ruled", "()I"⟩
def dkwX4_ruled_6 : List UInt8 := [158, 0, 7, 4, 167, 0, 4, 3, 184, 0, 40, 96, 167, 0, 9, 42, 180, 0, 118, 3, 46, 172]
abbrev dktX4_ruled_6 : List UInt8 := dkwX4_ruled_6 ++ []
def dkwX4_ruled_5 : List UInt8 := [132, 1, 1, 132, 2, 1, 167, 255, 138, 42, 180, 0, 105, 154, 0, 25, 4, 42, 180, 0, 125, 3, 46]
abbrev dktX4_ruled_5 : List UInt8 := dkwX4_ruled_5 ++ dktX4_ruled_6
def dkwX4_ruled_4 : List UInt8 := [27, 29, 17, 3, 232, 161, 0, 16, 42, 180, 0, 125, 29, 17, 3, 232, 100, 46, 167, 0, 4, 29, 79]
abbrev dktX4_ruled_4 : List UInt8 := dkwX4_ruled_4 ++ dktX4_ruled_5
def dkwX4_ruled_3 : List UInt8 := [180, 0, 118, 27, 4, 100, 46, 42, 180, 0, 118, 27, 46, 184, 0, 121, 79, 167, 0, 33, 42, 180, 0, 118]
abbrev dktX4_ruled_3 : List UInt8 := dkwX4_ruled_3 ++ dktX4_ruled_4
def dkwX4_ruled_2 : List UInt8 := [17, 7, 208, 161, 0, 39, 132, 1, 255, 42, 180, 0, 118, 27, 4, 100, 29, 17, 7, 208, 100, 42]
abbrev dktX4_ruled_2 : List UInt8 := dkwX4_ruled_2 ++ dktX4_ruled_3
def dkwX4_ruled_1 : List UInt8 := [160, 0, 23, 42, 180, 0, 118, 27, 4, 100, 42, 180, 0, 118, 27, 4, 100, 46, 116, 79, 167, 0, 76, 29]
abbrev dktX4_ruled_1 : List UInt8 := dkwX4_ruled_1 ++ dktX4_ruled_2
def dkwX4_ruled_0 : List UInt8 := [3, 60, 3, 61, 28, 42, 180, 0, 105, 162, 0, 116, 42, 180, 0, 108, 28, 46, 62, 29, 17, 11, 184]
abbrev dktX4_ruled_0 : List UInt8 := dkwX4_ruled_0 ++ dktX4_ruled_1
theorem dksX4_ruled_0 : cX4_ruled.data.toList.drop 0 = dktX4_ruled_0 := by decide +kernel
theorem dksX4_ruled_1 : cX4_ruled.data.toList.drop 23 = dktX4_ruled_1 := dk_seg dksX4_ruled_0 23 rfl rfl
theorem dksX4_ruled_2 : cX4_ruled.data.toList.drop 47 = dktX4_ruled_2 := dk_seg dksX4_ruled_1 24 rfl rfl
theorem dksX4_ruled_3 : cX4_ruled.data.toList.drop 69 = dktX4_ruled_3 := dk_seg dksX4_ruled_2 22 rfl rfl
theorem dksX4_ruled_4 : cX4_ruled.data.toList.drop 93 = dktX4_ruled_4 := dk_seg dksX4_ruled_3 24 rfl rfl
theorem dksX4_ruled_5 : cX4_ruled.data.toList.drop 116 = dktX4_ruled_5 := dk_seg dksX4_ruled_4 23 rfl rfl
theorem dksX4_ruled_6 : cX4_ruled.data.toList.drop 139 = dktX4_ruled_6 := dk_seg dksX4_ruled_5 23 rfl rfl
theorem dX4_ruled_0 : decode cX4_ruled 0 = .ok (.iconst 0, 1) := dk_3 (dk_at dksX4_ruled_0 0 rfl rfl)
theorem dX4_ruled_1 : decode cX4_ruled 1 = .ok (.istore_n 1, 1) := dk_60 (dk_at dksX4_ruled_0 1 rfl rfl)
theorem dX4_ruled_2 : decode cX4_ruled 2 = .ok (.iconst 0, 1) := dk_3 (dk_at dksX4_ruled_0 2 rfl rfl)
theorem dX4_ruled_3 : decode cX4_ruled 3 = .ok (.istore_n 2, 1) := dk_61 (dk_at dksX4_ruled_0 3 rfl rfl)
theorem dX4_ruled_4 : decode cX4_ruled 4 = .ok (.iload_n 2, 1) := dk_28 (dk_at dksX4_ruled_0 4 rfl rfl)
theorem dX4_ruled_5 : decode cX4_ruled 5 = .ok (.aload_n 0, 1) := dk_42 (dk_at dksX4_ruled_0 5 rfl rfl)
theorem dX4_ruled_6 : decode cX4_ruled 6 = .ok (.getfield 105, 3) := dk_180 0 105 (dk_at dksX4_ruled_0 6 rfl rfl)
theorem dX4_ruled_9 : decode cX4_ruled 9 = .ok (.if_icmp .ge 116, 3) := dk_162 0 116 (dk_at dksX4_ruled_0 9 rfl rfl)
theorem dX4_ruled_12 : decode cX4_ruled 12 = .ok (.aload_n 0, 1) := dk_42 (dk_at dksX4_ruled_0 12 rfl rfl)
theorem dX4_ruled_13 : decode cX4_ruled 13 = .ok (.getfield 108, 3) := dk_180 0 108 (dk_at dksX4_ruled_0 13 rfl rfl)
theorem dX4_ruled_16 : decode cX4_ruled 16 = .ok (.iload_n 2, 1) := dk_28 (dk_at dksX4_ruled_0 16 rfl rfl)
theorem dX4_ruled_17 : decode cX4_ruled 17 = .ok (.iaload, 1) := dk_46 (dk_at dksX4_ruled_0 17 rfl rfl)
theorem dX4_ruled_18 : decode cX4_ruled 18 = .ok (.istore_n 3, 1) := dk_62 (dk_at dksX4_ruled_0 18 rfl rfl)
theorem dX4_ruled_19 : decode cX4_ruled 19 = .ok (.iload_n 3, 1) := dk_29 (dk_at dksX4_ruled_0 19 rfl rfl)
theorem dX4_ruled_20 : decode cX4_ruled 20 = .ok (.sipush 3000, 3) := dk_17 11 184 (dk_at dksX4_ruled_0 20 rfl rfl)
theorem dX4_ruled_23 : decode cX4_ruled 23 = .ok (.if_icmp .ne 23, 3) := dk_160 0 23 (dk_at dksX4_ruled_1 0 rfl rfl)
theorem dX4_ruled_26 : decode cX4_ruled 26 = .ok (.aload_n 0, 1) := dk_42 (dk_at dksX4_ruled_1 3 rfl rfl)
theorem dX4_ruled_27 : decode cX4_ruled 27 = .ok (.getfield 118, 3) := dk_180 0 118 (dk_at dksX4_ruled_1 4 rfl rfl)
theorem dX4_ruled_30 : decode cX4_ruled 30 = .ok (.iload_n 1, 1) := dk_27 (dk_at dksX4_ruled_1 7 rfl rfl)
theorem dX4_ruled_31 : decode cX4_ruled 31 = .ok (.iconst 1, 1) := dk_4 (dk_at dksX4_ruled_1 8 rfl rfl)
theorem dX4_ruled_32 : decode cX4_ruled 32 = .ok (.isub, 1) := dk_100 (dk_at dksX4_ruled_1 9 rfl rfl)
theorem dX4_ruled_33 : decode cX4_ruled 33 = .ok (.aload_n 0, 1) := dk_42 (dk_at dksX4_ruled_1 10 rfl rfl)
theorem dX4_ruled_34 : decode cX4_ruled 34 = .ok (.getfield 118, 3) := dk_180 0 118 (dk_at dksX4_ruled_1 11 rfl rfl)
theorem dX4_ruled_37 : decode cX4_ruled 37 = .ok (.iload_n 1, 1) := dk_27 (dk_at dksX4_ruled_1 14 rfl rfl)
theorem dX4_ruled_38 : decode cX4_ruled 38 = .ok (.iconst 1, 1) := dk_4 (dk_at dksX4_ruled_1 15 rfl rfl)
theorem dX4_ruled_39 : decode cX4_ruled 39 = .ok (.isub, 1) := dk_100 (dk_at dksX4_ruled_1 16 rfl rfl)
theorem dX4_ruled_40 : decode cX4_ruled 40 = .ok (.iaload, 1) := dk_46 (dk_at dksX4_ruled_1 17 rfl rfl)
theorem dX4_ruled_41 : decode cX4_ruled 41 = .ok (.ineg, 1) := dk_116 (dk_at dksX4_ruled_1 18 rfl rfl)
theorem dX4_ruled_42 : decode cX4_ruled 42 = .ok (.iastore, 1) := dk_79 (dk_at dksX4_ruled_1 19 rfl rfl)
theorem dX4_ruled_43 : decode cX4_ruled 43 = .ok (.goto 76, 3) := dk_167 0 76 (dk_at dksX4_ruled_1 20 rfl rfl)
theorem dX4_ruled_46 : decode cX4_ruled 46 = .ok (.iload_n 3, 1) := dk_29 (dk_at dksX4_ruled_1 23 rfl rfl)
theorem dX4_ruled_47 : decode cX4_ruled 47 = .ok (.sipush 2000, 3) := dk_17 7 208 (dk_at dksX4_ruled_2 0 rfl rfl)
theorem dX4_ruled_50 : decode cX4_ruled 50 = .ok (.if_icmp .lt 39, 3) := dk_161 0 39 (dk_at dksX4_ruled_2 3 rfl rfl)
theorem dX4_ruled_53 : decode cX4_ruled 53 = .ok (.iinc 1 (-1), 3) := dk_132 1 255 (dk_at dksX4_ruled_2 6 rfl rfl)
theorem dX4_ruled_56 : decode cX4_ruled 56 = .ok (.aload_n 0, 1) := dk_42 (dk_at dksX4_ruled_2 9 rfl rfl)
theorem dX4_ruled_57 : decode cX4_ruled 57 = .ok (.getfield 118, 3) := dk_180 0 118 (dk_at dksX4_ruled_2 10 rfl rfl)
theorem dX4_ruled_60 : decode cX4_ruled 60 = .ok (.iload_n 1, 1) := dk_27 (dk_at dksX4_ruled_2 13 rfl rfl)
theorem dX4_ruled_61 : decode cX4_ruled 61 = .ok (.iconst 1, 1) := dk_4 (dk_at dksX4_ruled_2 14 rfl rfl)
theorem dX4_ruled_62 : decode cX4_ruled 62 = .ok (.isub, 1) := dk_100 (dk_at dksX4_ruled_2 15 rfl rfl)
theorem dX4_ruled_63 : decode cX4_ruled 63 = .ok (.iload_n 3, 1) := dk_29 (dk_at dksX4_ruled_2 16 rfl rfl)
theorem dX4_ruled_64 : decode cX4_ruled 64 = .ok (.sipush 2000, 3) := dk_17 7 208 (dk_at dksX4_ruled_2 17 rfl rfl)
theorem dX4_ruled_67 : decode cX4_ruled 67 = .ok (.isub, 1) := dk_100 (dk_at dksX4_ruled_2 20 rfl rfl)
theorem dX4_ruled_68 : decode cX4_ruled 68 = .ok (.aload_n 0, 1) := dk_42 (dk_at dksX4_ruled_2 21 rfl rfl)
theorem dX4_ruled_69 : decode cX4_ruled 69 = .ok (.getfield 118, 3) := dk_180 0 118 (dk_at dksX4_ruled_3 0 rfl rfl)
theorem dX4_ruled_72 : decode cX4_ruled 72 = .ok (.iload_n 1, 1) := dk_27 (dk_at dksX4_ruled_3 3 rfl rfl)
theorem dX4_ruled_73 : decode cX4_ruled 73 = .ok (.iconst 1, 1) := dk_4 (dk_at dksX4_ruled_3 4 rfl rfl)
theorem dX4_ruled_74 : decode cX4_ruled 74 = .ok (.isub, 1) := dk_100 (dk_at dksX4_ruled_3 5 rfl rfl)
theorem dX4_ruled_75 : decode cX4_ruled 75 = .ok (.iaload, 1) := dk_46 (dk_at dksX4_ruled_3 6 rfl rfl)
theorem dX4_ruled_76 : decode cX4_ruled 76 = .ok (.aload_n 0, 1) := dk_42 (dk_at dksX4_ruled_3 7 rfl rfl)
theorem dX4_ruled_77 : decode cX4_ruled 77 = .ok (.getfield 118, 3) := dk_180 0 118 (dk_at dksX4_ruled_3 8 rfl rfl)
theorem dX4_ruled_80 : decode cX4_ruled 80 = .ok (.iload_n 1, 1) := dk_27 (dk_at dksX4_ruled_3 11 rfl rfl)
theorem dX4_ruled_81 : decode cX4_ruled 81 = .ok (.iaload, 1) := dk_46 (dk_at dksX4_ruled_3 12 rfl rfl)
theorem dX4_ruled_82 : decode cX4_ruled 82 = .ok (.invokestatic 121, 3) := dk_184 0 121 (dk_at dksX4_ruled_3 13 rfl rfl)
theorem dX4_ruled_85 : decode cX4_ruled 85 = .ok (.iastore, 1) := dk_79 (dk_at dksX4_ruled_3 16 rfl rfl)
theorem dX4_ruled_86 : decode cX4_ruled 86 = .ok (.goto 33, 3) := dk_167 0 33 (dk_at dksX4_ruled_3 17 rfl rfl)
theorem dX4_ruled_89 : decode cX4_ruled 89 = .ok (.aload_n 0, 1) := dk_42 (dk_at dksX4_ruled_3 20 rfl rfl)
theorem dX4_ruled_90 : decode cX4_ruled 90 = .ok (.getfield 118, 3) := dk_180 0 118 (dk_at dksX4_ruled_3 21 rfl rfl)
theorem dX4_ruled_93 : decode cX4_ruled 93 = .ok (.iload_n 1, 1) := dk_27 (dk_at dksX4_ruled_4 0 rfl rfl)
theorem dX4_ruled_94 : decode cX4_ruled 94 = .ok (.iload_n 3, 1) := dk_29 (dk_at dksX4_ruled_4 1 rfl rfl)
theorem dX4_ruled_95 : decode cX4_ruled 95 = .ok (.sipush 1000, 3) := dk_17 3 232 (dk_at dksX4_ruled_4 2 rfl rfl)
theorem dX4_ruled_98 : decode cX4_ruled 98 = .ok (.if_icmp .lt 16, 3) := dk_161 0 16 (dk_at dksX4_ruled_4 5 rfl rfl)
theorem dX4_ruled_101 : decode cX4_ruled 101 = .ok (.aload_n 0, 1) := dk_42 (dk_at dksX4_ruled_4 8 rfl rfl)
theorem dX4_ruled_102 : decode cX4_ruled 102 = .ok (.getfield 125, 3) := dk_180 0 125 (dk_at dksX4_ruled_4 9 rfl rfl)
theorem dX4_ruled_105 : decode cX4_ruled 105 = .ok (.iload_n 3, 1) := dk_29 (dk_at dksX4_ruled_4 12 rfl rfl)
theorem dX4_ruled_106 : decode cX4_ruled 106 = .ok (.sipush 1000, 3) := dk_17 3 232 (dk_at dksX4_ruled_4 13 rfl rfl)
theorem dX4_ruled_109 : decode cX4_ruled 109 = .ok (.isub, 1) := dk_100 (dk_at dksX4_ruled_4 16 rfl rfl)
theorem dX4_ruled_110 : decode cX4_ruled 110 = .ok (.iaload, 1) := dk_46 (dk_at dksX4_ruled_4 17 rfl rfl)
theorem dX4_ruled_111 : decode cX4_ruled 111 = .ok (.goto 4, 3) := dk_167 0 4 (dk_at dksX4_ruled_4 18 rfl rfl)
theorem dX4_ruled_114 : decode cX4_ruled 114 = .ok (.iload_n 3, 1) := dk_29 (dk_at dksX4_ruled_4 21 rfl rfl)
theorem dX4_ruled_115 : decode cX4_ruled 115 = .ok (.iastore, 1) := dk_79 (dk_at dksX4_ruled_4 22 rfl rfl)
theorem dX4_ruled_116 : decode cX4_ruled 116 = .ok (.iinc 1 1, 3) := dk_132 1 1 (dk_at dksX4_ruled_5 0 rfl rfl)
theorem dX4_ruled_119 : decode cX4_ruled 119 = .ok (.iinc 2 1, 3) := dk_132 2 1 (dk_at dksX4_ruled_5 3 rfl rfl)
theorem dX4_ruled_122 : decode cX4_ruled 122 = .ok (.goto (-118), 3) := dk_167 255 138 (dk_at dksX4_ruled_5 6 rfl rfl)
theorem dX4_ruled_125 : decode cX4_ruled 125 = .ok (.aload_n 0, 1) := dk_42 (dk_at dksX4_ruled_5 9 rfl rfl)
theorem dX4_ruled_126 : decode cX4_ruled 126 = .ok (.getfield 105, 3) := dk_180 0 105 (dk_at dksX4_ruled_5 10 rfl rfl)
theorem dX4_ruled_129 : decode cX4_ruled 129 = .ok (.ifCond .ne 25, 3) := dk_154 0 25 (dk_at dksX4_ruled_5 13 rfl rfl)
theorem dX4_ruled_132 : decode cX4_ruled 132 = .ok (.iconst 1, 1) := dk_4 (dk_at dksX4_ruled_5 16 rfl rfl)
theorem dX4_ruled_133 : decode cX4_ruled 133 = .ok (.aload_n 0, 1) := dk_42 (dk_at dksX4_ruled_5 17 rfl rfl)
theorem dX4_ruled_134 : decode cX4_ruled 134 = .ok (.getfield 125, 3) := dk_180 0 125 (dk_at dksX4_ruled_5 18 rfl rfl)
theorem dX4_ruled_137 : decode cX4_ruled 137 = .ok (.iconst 0, 1) := dk_3 (dk_at dksX4_ruled_5 21 rfl rfl)
theorem dX4_ruled_138 : decode cX4_ruled 138 = .ok (.iaload, 1) := dk_46 (dk_at dksX4_ruled_5 22 rfl rfl)
theorem dX4_ruled_139 : decode cX4_ruled 139 = .ok (.ifCond .le 7, 3) := dk_158 0 7 (dk_at dksX4_ruled_6 0 rfl rfl)
theorem dX4_ruled_142 : decode cX4_ruled 142 = .ok (.iconst 1, 1) := dk_4 (dk_at dksX4_ruled_6 3 rfl rfl)
theorem dX4_ruled_143 : decode cX4_ruled 143 = .ok (.goto 4, 3) := dk_167 0 4 (dk_at dksX4_ruled_6 4 rfl rfl)
theorem dX4_ruled_146 : decode cX4_ruled 146 = .ok (.iconst 0, 1) := dk_3 (dk_at dksX4_ruled_6 7 rfl rfl)
theorem dX4_ruled_147 : decode cX4_ruled 147 = .ok (.invokestatic 40, 3) := dk_184 0 40 (dk_at dksX4_ruled_6 8 rfl rfl)
theorem dX4_ruled_150 : decode cX4_ruled 150 = .ok (.iadd, 1) := dk_96 (dk_at dksX4_ruled_6 11 rfl rfl)
theorem dX4_ruled_151 : decode cX4_ruled 151 = .ok (.goto 9, 3) := dk_167 0 9 (dk_at dksX4_ruled_6 12 rfl rfl)
theorem dX4_ruled_154 : decode cX4_ruled 154 = .ok (.aload_n 0, 1) := dk_42 (dk_at dksX4_ruled_6 15 rfl rfl)
theorem dX4_ruled_155 : decode cX4_ruled 155 = .ok (.getfield 118, 3) := dk_180 0 118 (dk_at dksX4_ruled_6 16 rfl rfl)
theorem dX4_ruled_158 : decode cX4_ruled 158 = .ok (.iconst 0, 1) := dk_3 (dk_at dksX4_ruled_6 19 rfl rfl)
theorem dX4_ruled_159 : decode cX4_ruled 159 = .ok (.iaload, 1) := dk_46 (dk_at dksX4_ruled_6 20 rfl rfl)
theorem dX4_ruled_160 : decode cX4_ruled 160 = .ok (.ireturn, 1) := dk_172 (dk_at dksX4_ruled_6 21 rfl rfl)
abbrev cX4_worked : ByteArray := prog_13_method_22_code
def yX4_worked : MethodName := ⟨RX4, "worked", "(III)I"⟩
def dkwX4_worked_4 : List UInt8 := [100, 172, 27, 28, 104, 172, 28, 154, 0, 7, 3, 167, 0, 6, 27, 28, 108, 172]
abbrev dktX4_worked_4 : List UInt8 := dkwX4_worked_4 ++ []
def dkwX4_worked_3 : List UInt8 := [184, 0, 40, 172, 27, 28, 160, 0, 7, 4, 167, 0, 4, 3, 184, 0, 40, 172, 27, 28, 96, 172, 27, 28]
abbrev dktX4_worked_3 : List UInt8 := dkwX4_worked_3 ++ dktX4_worked_4
def dkwX4_worked_2 : List UInt8 := [27, 28, 162, 0, 7, 4, 167, 0, 4, 3, 184, 0, 40, 172, 27, 28, 164, 0, 7, 4, 167, 0, 4, 3]
abbrev dktX4_worked_2 : List UInt8 := dkwX4_worked_2 ++ dktX4_worked_3
def dkwX4_worked_1 : List UInt8 := [170, 0, 0, 0, 0, 0, 93, 0, 0, 0, 0, 0, 0, 0, 5, 0, 0, 0, 39, 0, 0, 0, 53, 0, 0, 0, 67, 0, 0, 0, 81, 0, 0, 0, 85, 0, 0, 0, 89]
abbrev dktX4_worked_1 : List UInt8 := dkwX4_worked_1 ++ dktX4_worked_2
def dkwX4_worked_0 : List UInt8 := [26]
abbrev dktX4_worked_0 : List UInt8 := dkwX4_worked_0 ++ dktX4_worked_1
theorem dksX4_worked_0 : cX4_worked.data.toList.drop 0 = dktX4_worked_0 := by decide +kernel
theorem dksX4_worked_1 : cX4_worked.data.toList.drop 1 = dktX4_worked_1 := dk_seg dksX4_worked_0 1 rfl rfl
theorem dksX4_worked_2 : cX4_worked.data.toList.drop 40 = dktX4_worked_2 := dk_seg dksX4_worked_1 39 rfl rfl
theorem dksX4_worked_3 : cX4_worked.data.toList.drop 64 = dktX4_worked_3 := dk_seg dksX4_worked_2 24 rfl rfl
theorem dksX4_worked_4 : cX4_worked.data.toList.drop 88 = dktX4_worked_4 := dk_seg dksX4_worked_3 24 rfl rfl
theorem dX4_worked_0 : decode cX4_worked 0 = .ok (.iload_n 0, 1) := dk_26 (dk_at dksX4_worked_0 0 rfl rfl)
theorem dX4_worked_1 : decode cX4_worked 1 = .ok (.tableswitch 93 0 5 #[39, 53, 67, 81, 85, 89], 39) := by decide +kernel
theorem dX4_worked_40 : decode cX4_worked 40 = .ok (.iload_n 1, 1) := dk_27 (dk_at dksX4_worked_2 0 rfl rfl)
theorem dX4_worked_41 : decode cX4_worked 41 = .ok (.iload_n 2, 1) := dk_28 (dk_at dksX4_worked_2 1 rfl rfl)
theorem dX4_worked_42 : decode cX4_worked 42 = .ok (.if_icmp .ge 7, 3) := dk_162 0 7 (dk_at dksX4_worked_2 2 rfl rfl)
theorem dX4_worked_45 : decode cX4_worked 45 = .ok (.iconst 1, 1) := dk_4 (dk_at dksX4_worked_2 5 rfl rfl)
theorem dX4_worked_46 : decode cX4_worked 46 = .ok (.goto 4, 3) := dk_167 0 4 (dk_at dksX4_worked_2 6 rfl rfl)
theorem dX4_worked_49 : decode cX4_worked 49 = .ok (.iconst 0, 1) := dk_3 (dk_at dksX4_worked_2 9 rfl rfl)
theorem dX4_worked_50 : decode cX4_worked 50 = .ok (.invokestatic 40, 3) := dk_184 0 40 (dk_at dksX4_worked_2 10 rfl rfl)
theorem dX4_worked_53 : decode cX4_worked 53 = .ok (.ireturn, 1) := dk_172 (dk_at dksX4_worked_2 13 rfl rfl)
theorem dX4_worked_54 : decode cX4_worked 54 = .ok (.iload_n 1, 1) := dk_27 (dk_at dksX4_worked_2 14 rfl rfl)
theorem dX4_worked_55 : decode cX4_worked 55 = .ok (.iload_n 2, 1) := dk_28 (dk_at dksX4_worked_2 15 rfl rfl)
theorem dX4_worked_56 : decode cX4_worked 56 = .ok (.if_icmp .le 7, 3) := dk_164 0 7 (dk_at dksX4_worked_2 16 rfl rfl)
theorem dX4_worked_59 : decode cX4_worked 59 = .ok (.iconst 1, 1) := dk_4 (dk_at dksX4_worked_2 19 rfl rfl)
theorem dX4_worked_60 : decode cX4_worked 60 = .ok (.goto 4, 3) := dk_167 0 4 (dk_at dksX4_worked_2 20 rfl rfl)
theorem dX4_worked_63 : decode cX4_worked 63 = .ok (.iconst 0, 1) := dk_3 (dk_at dksX4_worked_2 23 rfl rfl)
theorem dX4_worked_64 : decode cX4_worked 64 = .ok (.invokestatic 40, 3) := dk_184 0 40 (dk_at dksX4_worked_3 0 rfl rfl)
theorem dX4_worked_67 : decode cX4_worked 67 = .ok (.ireturn, 1) := dk_172 (dk_at dksX4_worked_3 3 rfl rfl)
theorem dX4_worked_68 : decode cX4_worked 68 = .ok (.iload_n 1, 1) := dk_27 (dk_at dksX4_worked_3 4 rfl rfl)
theorem dX4_worked_69 : decode cX4_worked 69 = .ok (.iload_n 2, 1) := dk_28 (dk_at dksX4_worked_3 5 rfl rfl)
theorem dX4_worked_70 : decode cX4_worked 70 = .ok (.if_icmp .ne 7, 3) := dk_160 0 7 (dk_at dksX4_worked_3 6 rfl rfl)
theorem dX4_worked_73 : decode cX4_worked 73 = .ok (.iconst 1, 1) := dk_4 (dk_at dksX4_worked_3 9 rfl rfl)
theorem dX4_worked_74 : decode cX4_worked 74 = .ok (.goto 4, 3) := dk_167 0 4 (dk_at dksX4_worked_3 10 rfl rfl)
theorem dX4_worked_77 : decode cX4_worked 77 = .ok (.iconst 0, 1) := dk_3 (dk_at dksX4_worked_3 13 rfl rfl)
theorem dX4_worked_78 : decode cX4_worked 78 = .ok (.invokestatic 40, 3) := dk_184 0 40 (dk_at dksX4_worked_3 14 rfl rfl)
theorem dX4_worked_81 : decode cX4_worked 81 = .ok (.ireturn, 1) := dk_172 (dk_at dksX4_worked_3 17 rfl rfl)
theorem dX4_worked_82 : decode cX4_worked 82 = .ok (.iload_n 1, 1) := dk_27 (dk_at dksX4_worked_3 18 rfl rfl)
theorem dX4_worked_83 : decode cX4_worked 83 = .ok (.iload_n 2, 1) := dk_28 (dk_at dksX4_worked_3 19 rfl rfl)
theorem dX4_worked_84 : decode cX4_worked 84 = .ok (.iadd, 1) := dk_96 (dk_at dksX4_worked_3 20 rfl rfl)
theorem dX4_worked_85 : decode cX4_worked 85 = .ok (.ireturn, 1) := dk_172 (dk_at dksX4_worked_3 21 rfl rfl)
theorem dX4_worked_86 : decode cX4_worked 86 = .ok (.iload_n 1, 1) := dk_27 (dk_at dksX4_worked_3 22 rfl rfl)
theorem dX4_worked_87 : decode cX4_worked 87 = .ok (.iload_n 2, 1) := dk_28 (dk_at dksX4_worked_3 23 rfl rfl)
theorem dX4_worked_88 : decode cX4_worked 88 = .ok (.isub, 1) := dk_100 (dk_at dksX4_worked_4 0 rfl rfl)
theorem dX4_worked_89 : decode cX4_worked 89 = .ok (.ireturn, 1) := dk_172 (dk_at dksX4_worked_4 1 rfl rfl)
theorem dX4_worked_90 : decode cX4_worked 90 = .ok (.iload_n 1, 1) := dk_27 (dk_at dksX4_worked_4 2 rfl rfl)
theorem dX4_worked_91 : decode cX4_worked 91 = .ok (.iload_n 2, 1) := dk_28 (dk_at dksX4_worked_4 3 rfl rfl)
theorem dX4_worked_92 : decode cX4_worked 92 = .ok (.imul, 1) := dk_104 (dk_at dksX4_worked_4 4 rfl rfl)
theorem dX4_worked_93 : decode cX4_worked 93 = .ok (.ireturn, 1) := dk_172 (dk_at dksX4_worked_4 5 rfl rfl)
theorem dX4_worked_94 : decode cX4_worked 94 = .ok (.iload_n 2, 1) := dk_28 (dk_at dksX4_worked_4 6 rfl rfl)
theorem dX4_worked_95 : decode cX4_worked 95 = .ok (.ifCond .ne 7, 3) := dk_154 0 7 (dk_at dksX4_worked_4 7 rfl rfl)
theorem dX4_worked_98 : decode cX4_worked 98 = .ok (.iconst 0, 1) := dk_3 (dk_at dksX4_worked_4 10 rfl rfl)
theorem dX4_worked_99 : decode cX4_worked 99 = .ok (.goto 6, 3) := dk_167 0 6 (dk_at dksX4_worked_4 11 rfl rfl)
theorem dX4_worked_102 : decode cX4_worked 102 = .ok (.iload_n 1, 1) := dk_27 (dk_at dksX4_worked_4 14 rfl rfl)
theorem dX4_worked_103 : decode cX4_worked 103 = .ok (.iload_n 2, 1) := dk_28 (dk_at dksX4_worked_4 15 rfl rfl)
theorem dX4_worked_104 : decode cX4_worked 104 = .ok (.idiv, 1) := dk_108 (dk_at dksX4_worked_4 16 rfl rfl)
theorem dX4_worked_105 : decode cX4_worked 105 = .ok (.ireturn, 1) := dk_172 (dk_at dksX4_worked_4 17 rfl rfl)
abbrev cX4_lays : ByteArray := prog_13_method_62_code
def yX4_lays : MethodName := ⟨RX4, "lays", "([III)V"⟩
def dkwX4_lays_0 : List UInt8 := [3, 62, 29, 8, 162, 0, 19, 42, 27, 29, 96, 42, 28, 29, 96, 46, 79, 132, 3, 1, 167, 255, 238, 177]
abbrev dktX4_lays_0 : List UInt8 := dkwX4_lays_0 ++ []
theorem dksX4_lays_0 : cX4_lays.data.toList.drop 0 = dktX4_lays_0 := by decide +kernel
theorem dX4_lays_0 : decode cX4_lays 0 = .ok (.iconst 0, 1) := dk_3 (dk_at dksX4_lays_0 0 rfl rfl)
theorem dX4_lays_1 : decode cX4_lays 1 = .ok (.istore_n 3, 1) := dk_62 (dk_at dksX4_lays_0 1 rfl rfl)
theorem dX4_lays_2 : decode cX4_lays 2 = .ok (.iload_n 3, 1) := dk_29 (dk_at dksX4_lays_0 2 rfl rfl)
theorem dX4_lays_3 : decode cX4_lays 3 = .ok (.iconst 5, 1) := dk_8 (dk_at dksX4_lays_0 3 rfl rfl)
theorem dX4_lays_4 : decode cX4_lays 4 = .ok (.if_icmp .ge 19, 3) := dk_162 0 19 (dk_at dksX4_lays_0 4 rfl rfl)
theorem dX4_lays_7 : decode cX4_lays 7 = .ok (.aload_n 0, 1) := dk_42 (dk_at dksX4_lays_0 7 rfl rfl)
theorem dX4_lays_8 : decode cX4_lays 8 = .ok (.iload_n 1, 1) := dk_27 (dk_at dksX4_lays_0 8 rfl rfl)
theorem dX4_lays_9 : decode cX4_lays 9 = .ok (.iload_n 3, 1) := dk_29 (dk_at dksX4_lays_0 9 rfl rfl)
theorem dX4_lays_10 : decode cX4_lays 10 = .ok (.iadd, 1) := dk_96 (dk_at dksX4_lays_0 10 rfl rfl)
theorem dX4_lays_11 : decode cX4_lays 11 = .ok (.aload_n 0, 1) := dk_42 (dk_at dksX4_lays_0 11 rfl rfl)
theorem dX4_lays_12 : decode cX4_lays 12 = .ok (.iload_n 2, 1) := dk_28 (dk_at dksX4_lays_0 12 rfl rfl)
theorem dX4_lays_13 : decode cX4_lays 13 = .ok (.iload_n 3, 1) := dk_29 (dk_at dksX4_lays_0 13 rfl rfl)
theorem dX4_lays_14 : decode cX4_lays 14 = .ok (.iadd, 1) := dk_96 (dk_at dksX4_lays_0 14 rfl rfl)
theorem dX4_lays_15 : decode cX4_lays 15 = .ok (.iaload, 1) := dk_46 (dk_at dksX4_lays_0 15 rfl rfl)
theorem dX4_lays_16 : decode cX4_lays 16 = .ok (.iastore, 1) := dk_79 (dk_at dksX4_lays_0 16 rfl rfl)
theorem dX4_lays_17 : decode cX4_lays 17 = .ok (.iinc 3 1, 3) := dk_132 3 1 (dk_at dksX4_lays_0 17 rfl rfl)
theorem dX4_lays_20 : decode cX4_lays 20 = .ok (.goto (-18), 3) := dk_167 255 238 (dk_at dksX4_lays_0 20 rfl rfl)
theorem dX4_lays_23 : decode cX4_lays 23 = .ok (.return_, 1) := dk_177 (dk_at dksX4_lays_0 23 rfl rfl)
abbrev cX4_enters : ByteArray := prog_13_method_5_code
def yX4_enters : MethodName := ⟨RX4, "enters", "(J)V"⟩
def dkwX4_enters_0 : List UInt8 := [42, 180, 0, 7, 42, 180, 0, 11, 31, 80, 42, 89, 180, 0, 11, 4, 96, 181, 0, 11, 177]
abbrev dktX4_enters_0 : List UInt8 := dkwX4_enters_0 ++ []
theorem dksX4_enters_0 : cX4_enters.data.toList.drop 0 = dktX4_enters_0 := by decide +kernel
theorem dX4_enters_0 : decode cX4_enters 0 = .ok (.aload_n 0, 1) := dk_42 (dk_at dksX4_enters_0 0 rfl rfl)
theorem dX4_enters_1 : decode cX4_enters 1 = .ok (.getfield 7, 3) := dk_180 0 7 (dk_at dksX4_enters_0 1 rfl rfl)
theorem dX4_enters_4 : decode cX4_enters 4 = .ok (.aload_n 0, 1) := dk_42 (dk_at dksX4_enters_0 4 rfl rfl)
theorem dX4_enters_5 : decode cX4_enters 5 = .ok (.getfield 11, 3) := dk_180 0 11 (dk_at dksX4_enters_0 5 rfl rfl)
theorem dX4_enters_8 : decode cX4_enters 8 = .ok (.lload_n 1, 1) := dk_31 (dk_at dksX4_enters_0 8 rfl rfl)
theorem dX4_enters_9 : decode cX4_enters 9 = .ok (.lastore, 1) := dk_80 (dk_at dksX4_enters_0 9 rfl rfl)
theorem dX4_enters_10 : decode cX4_enters 10 = .ok (.aload_n 0, 1) := dk_42 (dk_at dksX4_enters_0 10 rfl rfl)
theorem dX4_enters_11 : decode cX4_enters 11 = .ok (.dup, 1) := dk_89 (dk_at dksX4_enters_0 11 rfl rfl)
theorem dX4_enters_12 : decode cX4_enters 12 = .ok (.getfield 11, 3) := dk_180 0 11 (dk_at dksX4_enters_0 12 rfl rfl)
theorem dX4_enters_15 : decode cX4_enters 15 = .ok (.iconst 1, 1) := dk_4 (dk_at dksX4_enters_0 15 rfl rfl)
theorem dX4_enters_16 : decode cX4_enters 16 = .ok (.iadd, 1) := dk_96 (dk_at dksX4_enters_0 16 rfl rfl)
theorem dX4_enters_17 : decode cX4_enters 17 = .ok (.putfield 11, 3) := dk_181 0 11 (dk_at dksX4_enters_0 17 rfl rfl)
theorem dX4_enters_20 : decode cX4_enters 20 = .ok (.return_, 1) := dk_177 (dk_at dksX4_enters_0 20 rfl rfl)
abbrev cX4_takes : ByteArray := prog_13_method_75_code
def yX4_takes : MethodName := ⟨RX4, "takes", "(I)I"⟩
def dkwX4_takes_3 : List UInt8 := [42, 180, 0, 146, 28, 3, 96, 46, 104, 42, 180, 0, 146, 28, 4, 96, 46, 96, 182, 0, 233, 172]
abbrev dktX4_takes_3 : List UInt8 := dkwX4_takes_3 ++ []
def dkwX4_takes_2 : List UInt8 := [28, 6, 96, 46, 133, 182, 1, 89, 42, 42, 180, 0, 146, 28, 7, 96, 46, 133, 182, 1, 89, 42, 16, 10]
abbrev dktX4_takes_2 : List UInt8 := dkwX4_takes_2 ++ dktX4_takes_3
def dkwX4_takes_1 : List UInt8 := [172, 42, 3, 181, 0, 11, 42, 42, 180, 0, 146, 28, 5, 96, 46, 133, 182, 1, 89, 42, 42, 180, 0, 146]
abbrev dktX4_takes_1 : List UInt8 := dkwX4_takes_1 ++ dktX4_takes_2
def dkwX4_takes_0 : List UInt8 := [42, 3, 181, 0, 3, 42, 182, 1, 99, 42, 42, 180, 0, 146, 27, 182, 1, 117, 61, 28, 156, 0, 5, 28]
abbrev dktX4_takes_0 : List UInt8 := dkwX4_takes_0 ++ dktX4_takes_1
theorem dksX4_takes_0 : cX4_takes.data.toList.drop 0 = dktX4_takes_0 := by decide +kernel
theorem dksX4_takes_1 : cX4_takes.data.toList.drop 24 = dktX4_takes_1 := dk_seg dksX4_takes_0 24 rfl rfl
theorem dksX4_takes_2 : cX4_takes.data.toList.drop 48 = dktX4_takes_2 := dk_seg dksX4_takes_1 24 rfl rfl
theorem dksX4_takes_3 : cX4_takes.data.toList.drop 72 = dktX4_takes_3 := dk_seg dksX4_takes_2 24 rfl rfl
theorem dX4_takes_0 : decode cX4_takes 0 = .ok (.aload_n 0, 1) := dk_42 (dk_at dksX4_takes_0 0 rfl rfl)
theorem dX4_takes_1 : decode cX4_takes 1 = .ok (.iconst 0, 1) := dk_3 (dk_at dksX4_takes_0 1 rfl rfl)
theorem dX4_takes_2 : decode cX4_takes 2 = .ok (.putfield 3, 3) := dk_181 0 3 (dk_at dksX4_takes_0 2 rfl rfl)
theorem dX4_takes_5 : decode cX4_takes 5 = .ok (.aload_n 0, 1) := dk_42 (dk_at dksX4_takes_0 5 rfl rfl)
theorem dX4_takes_6 : decode cX4_takes 6 = .ok (.invokevirtual 355, 3) := dk_182 1 99 (dk_at dksX4_takes_0 6 rfl rfl)
theorem dX4_takes_9 : decode cX4_takes 9 = .ok (.aload_n 0, 1) := dk_42 (dk_at dksX4_takes_0 9 rfl rfl)
theorem dX4_takes_10 : decode cX4_takes 10 = .ok (.aload_n 0, 1) := dk_42 (dk_at dksX4_takes_0 10 rfl rfl)
theorem dX4_takes_11 : decode cX4_takes 11 = .ok (.getfield 146, 3) := dk_180 0 146 (dk_at dksX4_takes_0 11 rfl rfl)
theorem dX4_takes_14 : decode cX4_takes 14 = .ok (.iload_n 1, 1) := dk_27 (dk_at dksX4_takes_0 14 rfl rfl)
theorem dX4_takes_15 : decode cX4_takes 15 = .ok (.invokevirtual 373, 3) := dk_182 1 117 (dk_at dksX4_takes_0 15 rfl rfl)
theorem dX4_takes_18 : decode cX4_takes 18 = .ok (.istore_n 2, 1) := dk_61 (dk_at dksX4_takes_0 18 rfl rfl)
theorem dX4_takes_19 : decode cX4_takes 19 = .ok (.iload_n 2, 1) := dk_28 (dk_at dksX4_takes_0 19 rfl rfl)
theorem dX4_takes_20 : decode cX4_takes 20 = .ok (.ifCond .ge 5, 3) := dk_156 0 5 (dk_at dksX4_takes_0 20 rfl rfl)
theorem dX4_takes_23 : decode cX4_takes 23 = .ok (.iload_n 2, 1) := dk_28 (dk_at dksX4_takes_0 23 rfl rfl)
theorem dX4_takes_24 : decode cX4_takes 24 = .ok (.ireturn, 1) := dk_172 (dk_at dksX4_takes_1 0 rfl rfl)
theorem dX4_takes_25 : decode cX4_takes 25 = .ok (.aload_n 0, 1) := dk_42 (dk_at dksX4_takes_1 1 rfl rfl)
theorem dX4_takes_26 : decode cX4_takes 26 = .ok (.iconst 0, 1) := dk_3 (dk_at dksX4_takes_1 2 rfl rfl)
theorem dX4_takes_27 : decode cX4_takes 27 = .ok (.putfield 11, 3) := dk_181 0 11 (dk_at dksX4_takes_1 3 rfl rfl)
theorem dX4_takes_30 : decode cX4_takes 30 = .ok (.aload_n 0, 1) := dk_42 (dk_at dksX4_takes_1 6 rfl rfl)
theorem dX4_takes_31 : decode cX4_takes 31 = .ok (.aload_n 0, 1) := dk_42 (dk_at dksX4_takes_1 7 rfl rfl)
theorem dX4_takes_32 : decode cX4_takes 32 = .ok (.getfield 146, 3) := dk_180 0 146 (dk_at dksX4_takes_1 8 rfl rfl)
theorem dX4_takes_35 : decode cX4_takes 35 = .ok (.iload_n 2, 1) := dk_28 (dk_at dksX4_takes_1 11 rfl rfl)
theorem dX4_takes_36 : decode cX4_takes 36 = .ok (.iconst 2, 1) := dk_5 (dk_at dksX4_takes_1 12 rfl rfl)
theorem dX4_takes_37 : decode cX4_takes 37 = .ok (.iadd, 1) := dk_96 (dk_at dksX4_takes_1 13 rfl rfl)
theorem dX4_takes_38 : decode cX4_takes 38 = .ok (.iaload, 1) := dk_46 (dk_at dksX4_takes_1 14 rfl rfl)
theorem dX4_takes_39 : decode cX4_takes 39 = .ok (.i2l, 1) := dk_133 (dk_at dksX4_takes_1 15 rfl rfl)
theorem dX4_takes_40 : decode cX4_takes 40 = .ok (.invokevirtual 345, 3) := dk_182 1 89 (dk_at dksX4_takes_1 16 rfl rfl)
theorem dX4_takes_43 : decode cX4_takes 43 = .ok (.aload_n 0, 1) := dk_42 (dk_at dksX4_takes_1 19 rfl rfl)
theorem dX4_takes_44 : decode cX4_takes 44 = .ok (.aload_n 0, 1) := dk_42 (dk_at dksX4_takes_1 20 rfl rfl)
theorem dX4_takes_45 : decode cX4_takes 45 = .ok (.getfield 146, 3) := dk_180 0 146 (dk_at dksX4_takes_1 21 rfl rfl)
theorem dX4_takes_48 : decode cX4_takes 48 = .ok (.iload_n 2, 1) := dk_28 (dk_at dksX4_takes_2 0 rfl rfl)
theorem dX4_takes_49 : decode cX4_takes 49 = .ok (.iconst 3, 1) := dk_6 (dk_at dksX4_takes_2 1 rfl rfl)
theorem dX4_takes_50 : decode cX4_takes 50 = .ok (.iadd, 1) := dk_96 (dk_at dksX4_takes_2 2 rfl rfl)
theorem dX4_takes_51 : decode cX4_takes 51 = .ok (.iaload, 1) := dk_46 (dk_at dksX4_takes_2 3 rfl rfl)
theorem dX4_takes_52 : decode cX4_takes 52 = .ok (.i2l, 1) := dk_133 (dk_at dksX4_takes_2 4 rfl rfl)
theorem dX4_takes_53 : decode cX4_takes 53 = .ok (.invokevirtual 345, 3) := dk_182 1 89 (dk_at dksX4_takes_2 5 rfl rfl)
theorem dX4_takes_56 : decode cX4_takes 56 = .ok (.aload_n 0, 1) := dk_42 (dk_at dksX4_takes_2 8 rfl rfl)
theorem dX4_takes_57 : decode cX4_takes 57 = .ok (.aload_n 0, 1) := dk_42 (dk_at dksX4_takes_2 9 rfl rfl)
theorem dX4_takes_58 : decode cX4_takes 58 = .ok (.getfield 146, 3) := dk_180 0 146 (dk_at dksX4_takes_2 10 rfl rfl)
theorem dX4_takes_61 : decode cX4_takes 61 = .ok (.iload_n 2, 1) := dk_28 (dk_at dksX4_takes_2 13 rfl rfl)
theorem dX4_takes_62 : decode cX4_takes 62 = .ok (.iconst 4, 1) := dk_7 (dk_at dksX4_takes_2 14 rfl rfl)
theorem dX4_takes_63 : decode cX4_takes 63 = .ok (.iadd, 1) := dk_96 (dk_at dksX4_takes_2 15 rfl rfl)
theorem dX4_takes_64 : decode cX4_takes 64 = .ok (.iaload, 1) := dk_46 (dk_at dksX4_takes_2 16 rfl rfl)
theorem dX4_takes_65 : decode cX4_takes 65 = .ok (.i2l, 1) := dk_133 (dk_at dksX4_takes_2 17 rfl rfl)
theorem dX4_takes_66 : decode cX4_takes 66 = .ok (.invokevirtual 345, 3) := dk_182 1 89 (dk_at dksX4_takes_2 18 rfl rfl)
theorem dX4_takes_69 : decode cX4_takes 69 = .ok (.aload_n 0, 1) := dk_42 (dk_at dksX4_takes_2 21 rfl rfl)
theorem dX4_takes_70 : decode cX4_takes 70 = .ok (.bipush 10, 2) := dk_16 10 (dk_at dksX4_takes_2 22 rfl rfl)
theorem dX4_takes_72 : decode cX4_takes 72 = .ok (.aload_n 0, 1) := dk_42 (dk_at dksX4_takes_3 0 rfl rfl)
theorem dX4_takes_73 : decode cX4_takes 73 = .ok (.getfield 146, 3) := dk_180 0 146 (dk_at dksX4_takes_3 1 rfl rfl)
theorem dX4_takes_76 : decode cX4_takes 76 = .ok (.iload_n 2, 1) := dk_28 (dk_at dksX4_takes_3 4 rfl rfl)
theorem dX4_takes_77 : decode cX4_takes 77 = .ok (.iconst 0, 1) := dk_3 (dk_at dksX4_takes_3 5 rfl rfl)
theorem dX4_takes_78 : decode cX4_takes 78 = .ok (.iadd, 1) := dk_96 (dk_at dksX4_takes_3 6 rfl rfl)
theorem dX4_takes_79 : decode cX4_takes 79 = .ok (.iaload, 1) := dk_46 (dk_at dksX4_takes_3 7 rfl rfl)
theorem dX4_takes_80 : decode cX4_takes 80 = .ok (.imul, 1) := dk_104 (dk_at dksX4_takes_3 8 rfl rfl)
theorem dX4_takes_81 : decode cX4_takes 81 = .ok (.aload_n 0, 1) := dk_42 (dk_at dksX4_takes_3 9 rfl rfl)
theorem dX4_takes_82 : decode cX4_takes 82 = .ok (.getfield 146, 3) := dk_180 0 146 (dk_at dksX4_takes_3 10 rfl rfl)
theorem dX4_takes_85 : decode cX4_takes 85 = .ok (.iload_n 2, 1) := dk_28 (dk_at dksX4_takes_3 13 rfl rfl)
theorem dX4_takes_86 : decode cX4_takes 86 = .ok (.iconst 1, 1) := dk_4 (dk_at dksX4_takes_3 14 rfl rfl)
theorem dX4_takes_87 : decode cX4_takes 87 = .ok (.iadd, 1) := dk_96 (dk_at dksX4_takes_3 15 rfl rfl)
theorem dX4_takes_88 : decode cX4_takes 88 = .ok (.iaload, 1) := dk_46 (dk_at dksX4_takes_3 16 rfl rfl)
theorem dX4_takes_89 : decode cX4_takes 89 = .ok (.iadd, 1) := dk_96 (dk_at dksX4_takes_3 17 rfl rfl)
theorem dX4_takes_90 : decode cX4_takes 90 = .ok (.invokevirtual 233, 3) := dk_182 0 233 (dk_at dksX4_takes_3 18 rfl rfl)
theorem dX4_takes_93 : decode cX4_takes 93 = .ok (.ireturn, 1) := dk_172 (dk_at dksX4_takes_3 21 rfl rfl)
abbrev cX4_takesOne : ByteArray := prog_13_method_52_code
def yX4_takesOne : MethodName := ⟨RX4, "takesOne", "([II)I"⟩
def dkwX4_takesOne_2 : List UInt8 := [16, 6, 184, 0, 220, 4, 96, 184, 1, 22, 43, 28, 7, 43, 29, 6, 96, 46, 184, 1, 22, 29, 172]
abbrev dktX4_takesOne_2 : List UInt8 := dkwX4_takesOne_2 ++ []
def dkwX4_takesOne_1 : List UInt8 := [160, 0, 6, 16, 254, 172, 28, 43, 28, 16, 6, 184, 0, 220, 184, 0, 249, 62, 43, 28, 16, 6, 43, 28]
abbrev dktX4_takesOne_1 : List UInt8 := dkwX4_takesOne_1 ++ dktX4_takesOne_2
def dkwX4_takesOne_0 : List UInt8 := [42, 28, 182, 0, 212, 154, 0, 5, 2, 172, 43, 28, 16, 6, 184, 0, 220, 43, 28, 8, 184, 0, 220]
abbrev dktX4_takesOne_0 : List UInt8 := dkwX4_takesOne_0 ++ dktX4_takesOne_1
theorem dksX4_takesOne_0 : cX4_takesOne.data.toList.drop 0 = dktX4_takesOne_0 := by decide +kernel
theorem dksX4_takesOne_1 : cX4_takesOne.data.toList.drop 23 = dktX4_takesOne_1 := dk_seg dksX4_takesOne_0 23 rfl rfl
theorem dksX4_takesOne_2 : cX4_takesOne.data.toList.drop 47 = dktX4_takesOne_2 := dk_seg dksX4_takesOne_1 24 rfl rfl
theorem dX4_takesOne_0 : decode cX4_takesOne 0 = .ok (.aload_n 0, 1) := dk_42 (dk_at dksX4_takesOne_0 0 rfl rfl)
theorem dX4_takesOne_1 : decode cX4_takesOne 1 = .ok (.iload_n 2, 1) := dk_28 (dk_at dksX4_takesOne_0 1 rfl rfl)
theorem dX4_takesOne_2 : decode cX4_takesOne 2 = .ok (.invokevirtual 212, 3) := dk_182 0 212 (dk_at dksX4_takesOne_0 2 rfl rfl)
theorem dX4_takesOne_5 : decode cX4_takesOne 5 = .ok (.ifCond .ne 5, 3) := dk_154 0 5 (dk_at dksX4_takesOne_0 5 rfl rfl)
theorem dX4_takesOne_8 : decode cX4_takesOne 8 = .ok (.iconst (-1), 1) := dk_2 (dk_at dksX4_takesOne_0 8 rfl rfl)
theorem dX4_takesOne_9 : decode cX4_takesOne 9 = .ok (.ireturn, 1) := dk_172 (dk_at dksX4_takesOne_0 9 rfl rfl)
theorem dX4_takesOne_10 : decode cX4_takesOne 10 = .ok (.aload_n 1, 1) := dk_43 (dk_at dksX4_takesOne_0 10 rfl rfl)
theorem dX4_takesOne_11 : decode cX4_takesOne 11 = .ok (.iload_n 2, 1) := dk_28 (dk_at dksX4_takesOne_0 11 rfl rfl)
theorem dX4_takesOne_12 : decode cX4_takesOne 12 = .ok (.bipush 6, 2) := dk_16 6 (dk_at dksX4_takesOne_0 12 rfl rfl)
theorem dX4_takesOne_14 : decode cX4_takesOne 14 = .ok (.invokestatic 220, 3) := dk_184 0 220 (dk_at dksX4_takesOne_0 14 rfl rfl)
theorem dX4_takesOne_17 : decode cX4_takesOne 17 = .ok (.aload_n 1, 1) := dk_43 (dk_at dksX4_takesOne_0 17 rfl rfl)
theorem dX4_takesOne_18 : decode cX4_takesOne 18 = .ok (.iload_n 2, 1) := dk_28 (dk_at dksX4_takesOne_0 18 rfl rfl)
theorem dX4_takesOne_19 : decode cX4_takesOne 19 = .ok (.iconst 5, 1) := dk_8 (dk_at dksX4_takesOne_0 19 rfl rfl)
theorem dX4_takesOne_20 : decode cX4_takesOne 20 = .ok (.invokestatic 220, 3) := dk_184 0 220 (dk_at dksX4_takesOne_0 20 rfl rfl)
theorem dX4_takesOne_23 : decode cX4_takesOne 23 = .ok (.if_icmp .ne 6, 3) := dk_160 0 6 (dk_at dksX4_takesOne_1 0 rfl rfl)
theorem dX4_takesOne_26 : decode cX4_takesOne 26 = .ok (.bipush (-2), 2) := dk_16 254 (dk_at dksX4_takesOne_1 3 rfl rfl)
theorem dX4_takesOne_28 : decode cX4_takesOne 28 = .ok (.ireturn, 1) := dk_172 (dk_at dksX4_takesOne_1 5 rfl rfl)
theorem dX4_takesOne_29 : decode cX4_takesOne 29 = .ok (.iload_n 2, 1) := dk_28 (dk_at dksX4_takesOne_1 6 rfl rfl)
theorem dX4_takesOne_30 : decode cX4_takesOne 30 = .ok (.aload_n 1, 1) := dk_43 (dk_at dksX4_takesOne_1 7 rfl rfl)
theorem dX4_takesOne_31 : decode cX4_takesOne 31 = .ok (.iload_n 2, 1) := dk_28 (dk_at dksX4_takesOne_1 8 rfl rfl)
theorem dX4_takesOne_32 : decode cX4_takesOne 32 = .ok (.bipush 6, 2) := dk_16 6 (dk_at dksX4_takesOne_1 9 rfl rfl)
theorem dX4_takesOne_34 : decode cX4_takesOne 34 = .ok (.invokestatic 220, 3) := dk_184 0 220 (dk_at dksX4_takesOne_1 11 rfl rfl)
theorem dX4_takesOne_37 : decode cX4_takesOne 37 = .ok (.invokestatic 249, 3) := dk_184 0 249 (dk_at dksX4_takesOne_1 14 rfl rfl)
theorem dX4_takesOne_40 : decode cX4_takesOne 40 = .ok (.istore_n 3, 1) := dk_62 (dk_at dksX4_takesOne_1 17 rfl rfl)
theorem dX4_takesOne_41 : decode cX4_takesOne 41 = .ok (.aload_n 1, 1) := dk_43 (dk_at dksX4_takesOne_1 18 rfl rfl)
theorem dX4_takesOne_42 : decode cX4_takesOne 42 = .ok (.iload_n 2, 1) := dk_28 (dk_at dksX4_takesOne_1 19 rfl rfl)
theorem dX4_takesOne_43 : decode cX4_takesOne 43 = .ok (.bipush 6, 2) := dk_16 6 (dk_at dksX4_takesOne_1 20 rfl rfl)
theorem dX4_takesOne_45 : decode cX4_takesOne 45 = .ok (.aload_n 1, 1) := dk_43 (dk_at dksX4_takesOne_1 22 rfl rfl)
theorem dX4_takesOne_46 : decode cX4_takesOne 46 = .ok (.iload_n 2, 1) := dk_28 (dk_at dksX4_takesOne_1 23 rfl rfl)
theorem dX4_takesOne_47 : decode cX4_takesOne 47 = .ok (.bipush 6, 2) := dk_16 6 (dk_at dksX4_takesOne_2 0 rfl rfl)
theorem dX4_takesOne_49 : decode cX4_takesOne 49 = .ok (.invokestatic 220, 3) := dk_184 0 220 (dk_at dksX4_takesOne_2 2 rfl rfl)
theorem dX4_takesOne_52 : decode cX4_takesOne 52 = .ok (.iconst 1, 1) := dk_4 (dk_at dksX4_takesOne_2 5 rfl rfl)
theorem dX4_takesOne_53 : decode cX4_takesOne 53 = .ok (.iadd, 1) := dk_96 (dk_at dksX4_takesOne_2 6 rfl rfl)
theorem dX4_takesOne_54 : decode cX4_takesOne 54 = .ok (.invokestatic 278, 3) := dk_184 1 22 (dk_at dksX4_takesOne_2 7 rfl rfl)
theorem dX4_takesOne_57 : decode cX4_takesOne 57 = .ok (.aload_n 1, 1) := dk_43 (dk_at dksX4_takesOne_2 10 rfl rfl)
theorem dX4_takesOne_58 : decode cX4_takesOne 58 = .ok (.iload_n 2, 1) := dk_28 (dk_at dksX4_takesOne_2 11 rfl rfl)
theorem dX4_takesOne_59 : decode cX4_takesOne 59 = .ok (.iconst 4, 1) := dk_7 (dk_at dksX4_takesOne_2 12 rfl rfl)
theorem dX4_takesOne_60 : decode cX4_takesOne 60 = .ok (.aload_n 1, 1) := dk_43 (dk_at dksX4_takesOne_2 13 rfl rfl)
theorem dX4_takesOne_61 : decode cX4_takesOne 61 = .ok (.iload_n 3, 1) := dk_29 (dk_at dksX4_takesOne_2 14 rfl rfl)
theorem dX4_takesOne_62 : decode cX4_takesOne 62 = .ok (.iconst 3, 1) := dk_6 (dk_at dksX4_takesOne_2 15 rfl rfl)
theorem dX4_takesOne_63 : decode cX4_takesOne 63 = .ok (.iadd, 1) := dk_96 (dk_at dksX4_takesOne_2 16 rfl rfl)
theorem dX4_takesOne_64 : decode cX4_takesOne 64 = .ok (.iaload, 1) := dk_46 (dk_at dksX4_takesOne_2 17 rfl rfl)
theorem dX4_takesOne_65 : decode cX4_takesOne 65 = .ok (.invokestatic 278, 3) := dk_184 1 22 (dk_at dksX4_takesOne_2 18 rfl rfl)
theorem dX4_takesOne_68 : decode cX4_takesOne 68 = .ok (.iload_n 3, 1) := dk_29 (dk_at dksX4_takesOne_2 21 rfl rfl)
theorem dX4_takesOne_69 : decode cX4_takesOne 69 = .ok (.ireturn, 1) := dk_172 (dk_at dksX4_takesOne_2 22 rfl rfl)
abbrev cX4_calls : ByteArray := prog_13_method_76_code
def yX4_calls : MethodName := ⟨RX4, "calls", "(II)I"⟩
def dkwX4_calls_0 : List UInt8 := [42, 3, 181, 0, 3, 42, 182, 1, 99, 42, 42, 42, 180, 0, 146, 27, 28, 182, 1, 120, 182, 1, 106, 172]
abbrev dktX4_calls_0 : List UInt8 := dkwX4_calls_0 ++ []
theorem dksX4_calls_0 : cX4_calls.data.toList.drop 0 = dktX4_calls_0 := by decide +kernel
theorem dX4_calls_0 : decode cX4_calls 0 = .ok (.aload_n 0, 1) := dk_42 (dk_at dksX4_calls_0 0 rfl rfl)
theorem dX4_calls_1 : decode cX4_calls 1 = .ok (.iconst 0, 1) := dk_3 (dk_at dksX4_calls_0 1 rfl rfl)
theorem dX4_calls_2 : decode cX4_calls 2 = .ok (.putfield 3, 3) := dk_181 0 3 (dk_at dksX4_calls_0 2 rfl rfl)
theorem dX4_calls_5 : decode cX4_calls 5 = .ok (.aload_n 0, 1) := dk_42 (dk_at dksX4_calls_0 5 rfl rfl)
theorem dX4_calls_6 : decode cX4_calls 6 = .ok (.invokevirtual 355, 3) := dk_182 1 99 (dk_at dksX4_calls_0 6 rfl rfl)
theorem dX4_calls_9 : decode cX4_calls 9 = .ok (.aload_n 0, 1) := dk_42 (dk_at dksX4_calls_0 9 rfl rfl)
theorem dX4_calls_10 : decode cX4_calls 10 = .ok (.aload_n 0, 1) := dk_42 (dk_at dksX4_calls_0 10 rfl rfl)
theorem dX4_calls_11 : decode cX4_calls 11 = .ok (.aload_n 0, 1) := dk_42 (dk_at dksX4_calls_0 11 rfl rfl)
theorem dX4_calls_12 : decode cX4_calls 12 = .ok (.getfield 146, 3) := dk_180 0 146 (dk_at dksX4_calls_0 12 rfl rfl)
theorem dX4_calls_15 : decode cX4_calls 15 = .ok (.iload_n 1, 1) := dk_27 (dk_at dksX4_calls_0 15 rfl rfl)
theorem dX4_calls_16 : decode cX4_calls 16 = .ok (.iload_n 2, 1) := dk_28 (dk_at dksX4_calls_0 16 rfl rfl)
theorem dX4_calls_17 : decode cX4_calls 17 = .ok (.invokevirtual 376, 3) := dk_182 1 120 (dk_at dksX4_calls_0 17 rfl rfl)
theorem dX4_calls_20 : decode cX4_calls 20 = .ok (.invokevirtual 362, 3) := dk_182 1 106 (dk_at dksX4_calls_0 20 rfl rfl)
theorem dX4_calls_23 : decode cX4_calls 23 = .ok (.ireturn, 1) := dk_172 (dk_at dksX4_calls_0 23 rfl rfl)
abbrev cX4_callsOne : ByteArray := prog_13_method_54_code
def yX4_callsOne : MethodName := ⟨RX4, "callsOne", "([III)I"⟩
def dkwX4_callsOne_4 : List UInt8 := [184, 1, 31, 43, 21, 5, 184, 1, 35, 21, 4, 172]
abbrev dktX4_callsOne_4 : List UInt8 := dkwX4_callsOne_4 ++ []
def dkwX4_callsOne_3 : List UInt8 := [184, 0, 242, 153, 0, 22, 43, 28, 43, 21, 5, 184, 0, 236, 16, 6, 96, 3, 96, 46, 4, 3]
abbrev dktX4_callsOne_3 : List UInt8 := dkwX4_callsOne_3 ++ dktX4_callsOne_4
def dkwX4_callsOne_2 : List UInt8 := [54, 5, 43, 28, 43, 21, 5, 184, 0, 236, 4, 96, 3, 96, 46, 4, 3, 184, 1, 31, 43, 21, 5]
abbrev dktX4_callsOne_2 : List UInt8 := dkwX4_callsOne_2 ++ dktX4_callsOne_3
def dkwX4_callsOne_1 : List UInt8 := [29, 184, 0, 252, 96, 184, 0, 239, 7, 96, 4, 79, 21, 4, 4, 160, 0, 63, 43, 28, 29, 184, 0, 255]
abbrev dktX4_callsOne_1 : List UInt8 := dkwX4_callsOne_1 ++ dktX4_callsOne_2
def dkwX4_callsOne_0 : List UInt8 := [42, 43, 28, 29, 182, 1, 28, 54, 4, 21, 4, 154, 0, 25, 43, 28, 43, 28, 6, 184, 0, 220, 43, 28]
abbrev dktX4_callsOne_0 : List UInt8 := dkwX4_callsOne_0 ++ dktX4_callsOne_1
theorem dksX4_callsOne_0 : cX4_callsOne.data.toList.drop 0 = dktX4_callsOne_0 := by decide +kernel
theorem dksX4_callsOne_1 : cX4_callsOne.data.toList.drop 24 = dktX4_callsOne_1 := dk_seg dksX4_callsOne_0 24 rfl rfl
theorem dksX4_callsOne_2 : cX4_callsOne.data.toList.drop 48 = dktX4_callsOne_2 := dk_seg dksX4_callsOne_1 24 rfl rfl
theorem dksX4_callsOne_3 : cX4_callsOne.data.toList.drop 71 = dktX4_callsOne_3 := dk_seg dksX4_callsOne_2 23 rfl rfl
theorem dksX4_callsOne_4 : cX4_callsOne.data.toList.drop 93 = dktX4_callsOne_4 := dk_seg dksX4_callsOne_3 22 rfl rfl
theorem dX4_callsOne_0 : decode cX4_callsOne 0 = .ok (.aload_n 0, 1) := dk_42 (dk_at dksX4_callsOne_0 0 rfl rfl)
theorem dX4_callsOne_1 : decode cX4_callsOne 1 = .ok (.aload_n 1, 1) := dk_43 (dk_at dksX4_callsOne_0 1 rfl rfl)
theorem dX4_callsOne_2 : decode cX4_callsOne 2 = .ok (.iload_n 2, 1) := dk_28 (dk_at dksX4_callsOne_0 2 rfl rfl)
theorem dX4_callsOne_3 : decode cX4_callsOne 3 = .ok (.iload_n 3, 1) := dk_29 (dk_at dksX4_callsOne_0 3 rfl rfl)
theorem dX4_callsOne_4 : decode cX4_callsOne 4 = .ok (.invokevirtual 284, 3) := dk_182 1 28 (dk_at dksX4_callsOne_0 4 rfl rfl)
theorem dX4_callsOne_7 : decode cX4_callsOne 7 = .ok (.istore 4, 2) := dk_54 4 (dk_at dksX4_callsOne_0 7 rfl rfl)
theorem dX4_callsOne_9 : decode cX4_callsOne 9 = .ok (.iload 4, 2) := dk_21 4 (dk_at dksX4_callsOne_0 9 rfl rfl)
theorem dX4_callsOne_11 : decode cX4_callsOne 11 = .ok (.ifCond .ne 25, 3) := dk_154 0 25 (dk_at dksX4_callsOne_0 11 rfl rfl)
theorem dX4_callsOne_14 : decode cX4_callsOne 14 = .ok (.aload_n 1, 1) := dk_43 (dk_at dksX4_callsOne_0 14 rfl rfl)
theorem dX4_callsOne_15 : decode cX4_callsOne 15 = .ok (.iload_n 2, 1) := dk_28 (dk_at dksX4_callsOne_0 15 rfl rfl)
theorem dX4_callsOne_16 : decode cX4_callsOne 16 = .ok (.aload_n 1, 1) := dk_43 (dk_at dksX4_callsOne_0 16 rfl rfl)
theorem dX4_callsOne_17 : decode cX4_callsOne 17 = .ok (.iload_n 2, 1) := dk_28 (dk_at dksX4_callsOne_0 17 rfl rfl)
theorem dX4_callsOne_18 : decode cX4_callsOne 18 = .ok (.iconst 3, 1) := dk_6 (dk_at dksX4_callsOne_0 18 rfl rfl)
theorem dX4_callsOne_19 : decode cX4_callsOne 19 = .ok (.invokestatic 220, 3) := dk_184 0 220 (dk_at dksX4_callsOne_0 19 rfl rfl)
theorem dX4_callsOne_22 : decode cX4_callsOne 22 = .ok (.aload_n 1, 1) := dk_43 (dk_at dksX4_callsOne_0 22 rfl rfl)
theorem dX4_callsOne_23 : decode cX4_callsOne 23 = .ok (.iload_n 2, 1) := dk_28 (dk_at dksX4_callsOne_0 23 rfl rfl)
theorem dX4_callsOne_24 : decode cX4_callsOne 24 = .ok (.iload_n 3, 1) := dk_29 (dk_at dksX4_callsOne_1 0 rfl rfl)
theorem dX4_callsOne_25 : decode cX4_callsOne 25 = .ok (.invokestatic 252, 3) := dk_184 0 252 (dk_at dksX4_callsOne_1 1 rfl rfl)
theorem dX4_callsOne_28 : decode cX4_callsOne 28 = .ok (.iadd, 1) := dk_96 (dk_at dksX4_callsOne_1 4 rfl rfl)
theorem dX4_callsOne_29 : decode cX4_callsOne 29 = .ok (.invokestatic 239, 3) := dk_184 0 239 (dk_at dksX4_callsOne_1 5 rfl rfl)
theorem dX4_callsOne_32 : decode cX4_callsOne 32 = .ok (.iconst 4, 1) := dk_7 (dk_at dksX4_callsOne_1 8 rfl rfl)
theorem dX4_callsOne_33 : decode cX4_callsOne 33 = .ok (.iadd, 1) := dk_96 (dk_at dksX4_callsOne_1 9 rfl rfl)
theorem dX4_callsOne_34 : decode cX4_callsOne 34 = .ok (.iconst 1, 1) := dk_4 (dk_at dksX4_callsOne_1 10 rfl rfl)
theorem dX4_callsOne_35 : decode cX4_callsOne 35 = .ok (.iastore, 1) := dk_79 (dk_at dksX4_callsOne_1 11 rfl rfl)
theorem dX4_callsOne_36 : decode cX4_callsOne 36 = .ok (.iload 4, 2) := dk_21 4 (dk_at dksX4_callsOne_1 12 rfl rfl)
theorem dX4_callsOne_38 : decode cX4_callsOne 38 = .ok (.iconst 1, 1) := dk_4 (dk_at dksX4_callsOne_1 14 rfl rfl)
theorem dX4_callsOne_39 : decode cX4_callsOne 39 = .ok (.if_icmp .ne 63, 3) := dk_160 0 63 (dk_at dksX4_callsOne_1 15 rfl rfl)
theorem dX4_callsOne_42 : decode cX4_callsOne 42 = .ok (.aload_n 1, 1) := dk_43 (dk_at dksX4_callsOne_1 18 rfl rfl)
theorem dX4_callsOne_43 : decode cX4_callsOne 43 = .ok (.iload_n 2, 1) := dk_28 (dk_at dksX4_callsOne_1 19 rfl rfl)
theorem dX4_callsOne_44 : decode cX4_callsOne 44 = .ok (.iload_n 3, 1) := dk_29 (dk_at dksX4_callsOne_1 20 rfl rfl)
theorem dX4_callsOne_45 : decode cX4_callsOne 45 = .ok (.invokestatic 255, 3) := dk_184 0 255 (dk_at dksX4_callsOne_1 21 rfl rfl)
theorem dX4_callsOne_48 : decode cX4_callsOne 48 = .ok (.istore 5, 2) := dk_54 5 (dk_at dksX4_callsOne_2 0 rfl rfl)
theorem dX4_callsOne_50 : decode cX4_callsOne 50 = .ok (.aload_n 1, 1) := dk_43 (dk_at dksX4_callsOne_2 2 rfl rfl)
theorem dX4_callsOne_51 : decode cX4_callsOne 51 = .ok (.iload_n 2, 1) := dk_28 (dk_at dksX4_callsOne_2 3 rfl rfl)
theorem dX4_callsOne_52 : decode cX4_callsOne 52 = .ok (.aload_n 1, 1) := dk_43 (dk_at dksX4_callsOne_2 4 rfl rfl)
theorem dX4_callsOne_53 : decode cX4_callsOne 53 = .ok (.iload 5, 2) := dk_21 5 (dk_at dksX4_callsOne_2 5 rfl rfl)
theorem dX4_callsOne_55 : decode cX4_callsOne 55 = .ok (.invokestatic 236, 3) := dk_184 0 236 (dk_at dksX4_callsOne_2 7 rfl rfl)
theorem dX4_callsOne_58 : decode cX4_callsOne 58 = .ok (.iconst 1, 1) := dk_4 (dk_at dksX4_callsOne_2 10 rfl rfl)
theorem dX4_callsOne_59 : decode cX4_callsOne 59 = .ok (.iadd, 1) := dk_96 (dk_at dksX4_callsOne_2 11 rfl rfl)
theorem dX4_callsOne_60 : decode cX4_callsOne 60 = .ok (.iconst 0, 1) := dk_3 (dk_at dksX4_callsOne_2 12 rfl rfl)
theorem dX4_callsOne_61 : decode cX4_callsOne 61 = .ok (.iadd, 1) := dk_96 (dk_at dksX4_callsOne_2 13 rfl rfl)
theorem dX4_callsOne_62 : decode cX4_callsOne 62 = .ok (.iaload, 1) := dk_46 (dk_at dksX4_callsOne_2 14 rfl rfl)
theorem dX4_callsOne_63 : decode cX4_callsOne 63 = .ok (.iconst 1, 1) := dk_4 (dk_at dksX4_callsOne_2 15 rfl rfl)
theorem dX4_callsOne_64 : decode cX4_callsOne 64 = .ok (.iconst 0, 1) := dk_3 (dk_at dksX4_callsOne_2 16 rfl rfl)
theorem dX4_callsOne_65 : decode cX4_callsOne 65 = .ok (.invokestatic 287, 3) := dk_184 1 31 (dk_at dksX4_callsOne_2 17 rfl rfl)
theorem dX4_callsOne_68 : decode cX4_callsOne 68 = .ok (.aload_n 1, 1) := dk_43 (dk_at dksX4_callsOne_2 20 rfl rfl)
theorem dX4_callsOne_69 : decode cX4_callsOne 69 = .ok (.iload 5, 2) := dk_21 5 (dk_at dksX4_callsOne_2 21 rfl rfl)
theorem dX4_callsOne_71 : decode cX4_callsOne 71 = .ok (.invokestatic 242, 3) := dk_184 0 242 (dk_at dksX4_callsOne_3 0 rfl rfl)
theorem dX4_callsOne_74 : decode cX4_callsOne 74 = .ok (.ifCond .eq 22, 3) := dk_153 0 22 (dk_at dksX4_callsOne_3 3 rfl rfl)
theorem dX4_callsOne_77 : decode cX4_callsOne 77 = .ok (.aload_n 1, 1) := dk_43 (dk_at dksX4_callsOne_3 6 rfl rfl)
theorem dX4_callsOne_78 : decode cX4_callsOne 78 = .ok (.iload_n 2, 1) := dk_28 (dk_at dksX4_callsOne_3 7 rfl rfl)
theorem dX4_callsOne_79 : decode cX4_callsOne 79 = .ok (.aload_n 1, 1) := dk_43 (dk_at dksX4_callsOne_3 8 rfl rfl)
theorem dX4_callsOne_80 : decode cX4_callsOne 80 = .ok (.iload 5, 2) := dk_21 5 (dk_at dksX4_callsOne_3 9 rfl rfl)
theorem dX4_callsOne_82 : decode cX4_callsOne 82 = .ok (.invokestatic 236, 3) := dk_184 0 236 (dk_at dksX4_callsOne_3 11 rfl rfl)
theorem dX4_callsOne_85 : decode cX4_callsOne 85 = .ok (.bipush 6, 2) := dk_16 6 (dk_at dksX4_callsOne_3 14 rfl rfl)
theorem dX4_callsOne_87 : decode cX4_callsOne 87 = .ok (.iadd, 1) := dk_96 (dk_at dksX4_callsOne_3 16 rfl rfl)
theorem dX4_callsOne_88 : decode cX4_callsOne 88 = .ok (.iconst 0, 1) := dk_3 (dk_at dksX4_callsOne_3 17 rfl rfl)
theorem dX4_callsOne_89 : decode cX4_callsOne 89 = .ok (.iadd, 1) := dk_96 (dk_at dksX4_callsOne_3 18 rfl rfl)
theorem dX4_callsOne_90 : decode cX4_callsOne 90 = .ok (.iaload, 1) := dk_46 (dk_at dksX4_callsOne_3 19 rfl rfl)
theorem dX4_callsOne_91 : decode cX4_callsOne 91 = .ok (.iconst 1, 1) := dk_4 (dk_at dksX4_callsOne_3 20 rfl rfl)
theorem dX4_callsOne_92 : decode cX4_callsOne 92 = .ok (.iconst 0, 1) := dk_3 (dk_at dksX4_callsOne_3 21 rfl rfl)
theorem dX4_callsOne_93 : decode cX4_callsOne 93 = .ok (.invokestatic 287, 3) := dk_184 1 31 (dk_at dksX4_callsOne_4 0 rfl rfl)
theorem dX4_callsOne_96 : decode cX4_callsOne 96 = .ok (.aload_n 1, 1) := dk_43 (dk_at dksX4_callsOne_4 3 rfl rfl)
theorem dX4_callsOne_97 : decode cX4_callsOne 97 = .ok (.iload 5, 2) := dk_21 5 (dk_at dksX4_callsOne_4 4 rfl rfl)
theorem dX4_callsOne_99 : decode cX4_callsOne 99 = .ok (.invokestatic 291, 3) := dk_184 1 35 (dk_at dksX4_callsOne_4 6 rfl rfl)
theorem dX4_callsOne_102 : decode cX4_callsOne 102 = .ok (.iload 4, 2) := dk_21 4 (dk_at dksX4_callsOne_4 9 rfl rfl)
theorem dX4_callsOne_104 : decode cX4_callsOne 104 = .ok (.ireturn, 1) := dk_172 (dk_at dksX4_callsOne_4 11 rfl rfl)
abbrev cX4_callsAnswer : ByteArray := prog_13_method_53_code
def yX4_callsAnswer : MethodName := ⟨RX4, "callsAnswer", "([III)I"⟩
def dkwX4_callsAnswer_4 : List UInt8 := [162, 0, 8, 16, 252, 167, 0, 4, 4, 172]
abbrev dktX4_callsAnswer_4 : List UInt8 := dkwX4_callsAnswer_4 ++ []
def dkwX4_callsAnswer_3 : List UInt8 := [54, 5, 21, 5, 156, 0, 8, 16, 254, 167, 0, 23, 43, 21, 5, 184, 0, 236, 16, 11, 96, 46, 5]
abbrev dktX4_callsAnswer_3 : List UInt8 := dkwX4_callsAnswer_3 ++ dktX4_callsAnswer_4
def dkwX4_callsAnswer_2 : List UInt8 := [184, 0, 239, 7, 96, 46, 4, 160, 0, 8, 16, 253, 167, 0, 4, 3, 172, 43, 28, 29, 184, 0, 255]
abbrev dktX4_callsAnswer_2 : List UInt8 := dkwX4_callsAnswer_2 ++ dktX4_callsAnswer_3
def dkwX4_callsAnswer_1 : List UInt8 := [29, 184, 0, 252, 54, 4, 21, 4, 155, 0, 31, 43, 28, 43, 28, 6, 184, 0, 220, 21, 4, 96]
abbrev dktX4_callsAnswer_1 : List UInt8 := dkwX4_callsAnswer_1 ++ dktX4_callsAnswer_2
def dkwX4_callsAnswer_0 : List UInt8 := [42, 28, 182, 0, 212, 153, 0, 15, 29, 133, 9, 20, 1, 26, 184, 0, 21, 154, 0, 5, 2, 172, 43, 28]
abbrev dktX4_callsAnswer_0 : List UInt8 := dkwX4_callsAnswer_0 ++ dktX4_callsAnswer_1
theorem dksX4_callsAnswer_0 : cX4_callsAnswer.data.toList.drop 0 = dktX4_callsAnswer_0 := by decide +kernel
theorem dksX4_callsAnswer_1 : cX4_callsAnswer.data.toList.drop 24 = dktX4_callsAnswer_1 := dk_seg dksX4_callsAnswer_0 24 rfl rfl
theorem dksX4_callsAnswer_2 : cX4_callsAnswer.data.toList.drop 46 = dktX4_callsAnswer_2 := dk_seg dksX4_callsAnswer_1 22 rfl rfl
theorem dksX4_callsAnswer_3 : cX4_callsAnswer.data.toList.drop 69 = dktX4_callsAnswer_3 := dk_seg dksX4_callsAnswer_2 23 rfl rfl
theorem dksX4_callsAnswer_4 : cX4_callsAnswer.data.toList.drop 92 = dktX4_callsAnswer_4 := dk_seg dksX4_callsAnswer_3 23 rfl rfl
theorem dX4_callsAnswer_0 : decode cX4_callsAnswer 0 = .ok (.aload_n 0, 1) := dk_42 (dk_at dksX4_callsAnswer_0 0 rfl rfl)
theorem dX4_callsAnswer_1 : decode cX4_callsAnswer 1 = .ok (.iload_n 2, 1) := dk_28 (dk_at dksX4_callsAnswer_0 1 rfl rfl)
theorem dX4_callsAnswer_2 : decode cX4_callsAnswer 2 = .ok (.invokevirtual 212, 3) := dk_182 0 212 (dk_at dksX4_callsAnswer_0 2 rfl rfl)
theorem dX4_callsAnswer_5 : decode cX4_callsAnswer 5 = .ok (.ifCond .eq 15, 3) := dk_153 0 15 (dk_at dksX4_callsAnswer_0 5 rfl rfl)
theorem dX4_callsAnswer_8 : decode cX4_callsAnswer 8 = .ok (.iload_n 3, 1) := dk_29 (dk_at dksX4_callsAnswer_0 8 rfl rfl)
theorem dX4_callsAnswer_9 : decode cX4_callsAnswer 9 = .ok (.i2l, 1) := dk_133 (dk_at dksX4_callsAnswer_0 9 rfl rfl)
theorem dX4_callsAnswer_10 : decode cX4_callsAnswer 10 = .ok (.lconst 0, 1) := dk_9 (dk_at dksX4_callsAnswer_0 10 rfl rfl)
theorem dX4_callsAnswer_11 : decode cX4_callsAnswer 11 = .ok (.ldc2_w 282, 3) := dk_20 1 26 (dk_at dksX4_callsAnswer_0 11 rfl rfl)
theorem dX4_callsAnswer_14 : decode cX4_callsAnswer 14 = .ok (.invokestatic 21, 3) := dk_184 0 21 (dk_at dksX4_callsAnswer_0 14 rfl rfl)
theorem dX4_callsAnswer_17 : decode cX4_callsAnswer 17 = .ok (.ifCond .ne 5, 3) := dk_154 0 5 (dk_at dksX4_callsAnswer_0 17 rfl rfl)
theorem dX4_callsAnswer_20 : decode cX4_callsAnswer 20 = .ok (.iconst (-1), 1) := dk_2 (dk_at dksX4_callsAnswer_0 20 rfl rfl)
theorem dX4_callsAnswer_21 : decode cX4_callsAnswer 21 = .ok (.ireturn, 1) := dk_172 (dk_at dksX4_callsAnswer_0 21 rfl rfl)
theorem dX4_callsAnswer_22 : decode cX4_callsAnswer 22 = .ok (.aload_n 1, 1) := dk_43 (dk_at dksX4_callsAnswer_0 22 rfl rfl)
theorem dX4_callsAnswer_23 : decode cX4_callsAnswer 23 = .ok (.iload_n 2, 1) := dk_28 (dk_at dksX4_callsAnswer_0 23 rfl rfl)
theorem dX4_callsAnswer_24 : decode cX4_callsAnswer 24 = .ok (.iload_n 3, 1) := dk_29 (dk_at dksX4_callsAnswer_1 0 rfl rfl)
theorem dX4_callsAnswer_25 : decode cX4_callsAnswer 25 = .ok (.invokestatic 252, 3) := dk_184 0 252 (dk_at dksX4_callsAnswer_1 1 rfl rfl)
theorem dX4_callsAnswer_28 : decode cX4_callsAnswer 28 = .ok (.istore 4, 2) := dk_54 4 (dk_at dksX4_callsAnswer_1 4 rfl rfl)
theorem dX4_callsAnswer_30 : decode cX4_callsAnswer 30 = .ok (.iload 4, 2) := dk_21 4 (dk_at dksX4_callsAnswer_1 6 rfl rfl)
theorem dX4_callsAnswer_32 : decode cX4_callsAnswer 32 = .ok (.ifCond .lt 31, 3) := dk_155 0 31 (dk_at dksX4_callsAnswer_1 8 rfl rfl)
theorem dX4_callsAnswer_35 : decode cX4_callsAnswer 35 = .ok (.aload_n 1, 1) := dk_43 (dk_at dksX4_callsAnswer_1 11 rfl rfl)
theorem dX4_callsAnswer_36 : decode cX4_callsAnswer 36 = .ok (.iload_n 2, 1) := dk_28 (dk_at dksX4_callsAnswer_1 12 rfl rfl)
theorem dX4_callsAnswer_37 : decode cX4_callsAnswer 37 = .ok (.aload_n 1, 1) := dk_43 (dk_at dksX4_callsAnswer_1 13 rfl rfl)
theorem dX4_callsAnswer_38 : decode cX4_callsAnswer 38 = .ok (.iload_n 2, 1) := dk_28 (dk_at dksX4_callsAnswer_1 14 rfl rfl)
theorem dX4_callsAnswer_39 : decode cX4_callsAnswer 39 = .ok (.iconst 3, 1) := dk_6 (dk_at dksX4_callsAnswer_1 15 rfl rfl)
theorem dX4_callsAnswer_40 : decode cX4_callsAnswer 40 = .ok (.invokestatic 220, 3) := dk_184 0 220 (dk_at dksX4_callsAnswer_1 16 rfl rfl)
theorem dX4_callsAnswer_43 : decode cX4_callsAnswer 43 = .ok (.iload 4, 2) := dk_21 4 (dk_at dksX4_callsAnswer_1 19 rfl rfl)
theorem dX4_callsAnswer_45 : decode cX4_callsAnswer 45 = .ok (.iadd, 1) := dk_96 (dk_at dksX4_callsAnswer_1 21 rfl rfl)
theorem dX4_callsAnswer_46 : decode cX4_callsAnswer 46 = .ok (.invokestatic 239, 3) := dk_184 0 239 (dk_at dksX4_callsAnswer_2 0 rfl rfl)
theorem dX4_callsAnswer_49 : decode cX4_callsAnswer 49 = .ok (.iconst 4, 1) := dk_7 (dk_at dksX4_callsAnswer_2 3 rfl rfl)
theorem dX4_callsAnswer_50 : decode cX4_callsAnswer 50 = .ok (.iadd, 1) := dk_96 (dk_at dksX4_callsAnswer_2 4 rfl rfl)
theorem dX4_callsAnswer_51 : decode cX4_callsAnswer 51 = .ok (.iaload, 1) := dk_46 (dk_at dksX4_callsAnswer_2 5 rfl rfl)
theorem dX4_callsAnswer_52 : decode cX4_callsAnswer 52 = .ok (.iconst 1, 1) := dk_4 (dk_at dksX4_callsAnswer_2 6 rfl rfl)
theorem dX4_callsAnswer_53 : decode cX4_callsAnswer 53 = .ok (.if_icmp .ne 8, 3) := dk_160 0 8 (dk_at dksX4_callsAnswer_2 7 rfl rfl)
theorem dX4_callsAnswer_56 : decode cX4_callsAnswer 56 = .ok (.bipush (-3), 2) := dk_16 253 (dk_at dksX4_callsAnswer_2 10 rfl rfl)
theorem dX4_callsAnswer_58 : decode cX4_callsAnswer 58 = .ok (.goto 4, 3) := dk_167 0 4 (dk_at dksX4_callsAnswer_2 12 rfl rfl)
theorem dX4_callsAnswer_61 : decode cX4_callsAnswer 61 = .ok (.iconst 0, 1) := dk_3 (dk_at dksX4_callsAnswer_2 15 rfl rfl)
theorem dX4_callsAnswer_62 : decode cX4_callsAnswer 62 = .ok (.ireturn, 1) := dk_172 (dk_at dksX4_callsAnswer_2 16 rfl rfl)
theorem dX4_callsAnswer_63 : decode cX4_callsAnswer 63 = .ok (.aload_n 1, 1) := dk_43 (dk_at dksX4_callsAnswer_2 17 rfl rfl)
theorem dX4_callsAnswer_64 : decode cX4_callsAnswer 64 = .ok (.iload_n 2, 1) := dk_28 (dk_at dksX4_callsAnswer_2 18 rfl rfl)
theorem dX4_callsAnswer_65 : decode cX4_callsAnswer 65 = .ok (.iload_n 3, 1) := dk_29 (dk_at dksX4_callsAnswer_2 19 rfl rfl)
theorem dX4_callsAnswer_66 : decode cX4_callsAnswer 66 = .ok (.invokestatic 255, 3) := dk_184 0 255 (dk_at dksX4_callsAnswer_2 20 rfl rfl)
theorem dX4_callsAnswer_69 : decode cX4_callsAnswer 69 = .ok (.istore 5, 2) := dk_54 5 (dk_at dksX4_callsAnswer_3 0 rfl rfl)
theorem dX4_callsAnswer_71 : decode cX4_callsAnswer 71 = .ok (.iload 5, 2) := dk_21 5 (dk_at dksX4_callsAnswer_3 2 rfl rfl)
theorem dX4_callsAnswer_73 : decode cX4_callsAnswer 73 = .ok (.ifCond .ge 8, 3) := dk_156 0 8 (dk_at dksX4_callsAnswer_3 4 rfl rfl)
theorem dX4_callsAnswer_76 : decode cX4_callsAnswer 76 = .ok (.bipush (-2), 2) := dk_16 254 (dk_at dksX4_callsAnswer_3 7 rfl rfl)
theorem dX4_callsAnswer_78 : decode cX4_callsAnswer 78 = .ok (.goto 23, 3) := dk_167 0 23 (dk_at dksX4_callsAnswer_3 9 rfl rfl)
theorem dX4_callsAnswer_81 : decode cX4_callsAnswer 81 = .ok (.aload_n 1, 1) := dk_43 (dk_at dksX4_callsAnswer_3 12 rfl rfl)
theorem dX4_callsAnswer_82 : decode cX4_callsAnswer 82 = .ok (.iload 5, 2) := dk_21 5 (dk_at dksX4_callsAnswer_3 13 rfl rfl)
theorem dX4_callsAnswer_84 : decode cX4_callsAnswer 84 = .ok (.invokestatic 236, 3) := dk_184 0 236 (dk_at dksX4_callsAnswer_3 15 rfl rfl)
theorem dX4_callsAnswer_87 : decode cX4_callsAnswer 87 = .ok (.bipush 11, 2) := dk_16 11 (dk_at dksX4_callsAnswer_3 18 rfl rfl)
theorem dX4_callsAnswer_89 : decode cX4_callsAnswer 89 = .ok (.iadd, 1) := dk_96 (dk_at dksX4_callsAnswer_3 20 rfl rfl)
theorem dX4_callsAnswer_90 : decode cX4_callsAnswer 90 = .ok (.iaload, 1) := dk_46 (dk_at dksX4_callsAnswer_3 21 rfl rfl)
theorem dX4_callsAnswer_91 : decode cX4_callsAnswer 91 = .ok (.iconst 2, 1) := dk_5 (dk_at dksX4_callsAnswer_3 22 rfl rfl)
theorem dX4_callsAnswer_92 : decode cX4_callsAnswer 92 = .ok (.if_icmp .ge 8, 3) := dk_162 0 8 (dk_at dksX4_callsAnswer_4 0 rfl rfl)
theorem dX4_callsAnswer_95 : decode cX4_callsAnswer 95 = .ok (.bipush (-4), 2) := dk_16 252 (dk_at dksX4_callsAnswer_4 3 rfl rfl)
theorem dX4_callsAnswer_97 : decode cX4_callsAnswer 97 = .ok (.goto 4, 3) := dk_167 0 4 (dk_at dksX4_callsAnswer_4 5 rfl rfl)
theorem dX4_callsAnswer_100 : decode cX4_callsAnswer 100 = .ok (.iconst 1, 1) := dk_4 (dk_at dksX4_callsAnswer_4 8 rfl rfl)
theorem dX4_callsAnswer_101 : decode cX4_callsAnswer 101 = .ok (.ireturn, 1) := dk_172 (dk_at dksX4_callsAnswer_4 9 rfl rfl)
abbrev cX4_resets : ByteArray := prog_13_method_77_code
def yX4_resets : MethodName := ⟨RX4, "resets", "()I"⟩
def dkwX4_resets_0 : List UInt8 := [42, 3, 181, 0, 3, 42, 182, 1, 99, 42, 42, 42, 180, 0, 146, 4, 182, 1, 123, 182, 0, 233, 172]
abbrev dktX4_resets_0 : List UInt8 := dkwX4_resets_0 ++ []
theorem dksX4_resets_0 : cX4_resets.data.toList.drop 0 = dktX4_resets_0 := by decide +kernel
theorem dX4_resets_0 : decode cX4_resets 0 = .ok (.aload_n 0, 1) := dk_42 (dk_at dksX4_resets_0 0 rfl rfl)
theorem dX4_resets_1 : decode cX4_resets 1 = .ok (.iconst 0, 1) := dk_3 (dk_at dksX4_resets_0 1 rfl rfl)
theorem dX4_resets_2 : decode cX4_resets 2 = .ok (.putfield 3, 3) := dk_181 0 3 (dk_at dksX4_resets_0 2 rfl rfl)
theorem dX4_resets_5 : decode cX4_resets 5 = .ok (.aload_n 0, 1) := dk_42 (dk_at dksX4_resets_0 5 rfl rfl)
theorem dX4_resets_6 : decode cX4_resets 6 = .ok (.invokevirtual 355, 3) := dk_182 1 99 (dk_at dksX4_resets_0 6 rfl rfl)
theorem dX4_resets_9 : decode cX4_resets 9 = .ok (.aload_n 0, 1) := dk_42 (dk_at dksX4_resets_0 9 rfl rfl)
theorem dX4_resets_10 : decode cX4_resets 10 = .ok (.aload_n 0, 1) := dk_42 (dk_at dksX4_resets_0 10 rfl rfl)
theorem dX4_resets_11 : decode cX4_resets 11 = .ok (.aload_n 0, 1) := dk_42 (dk_at dksX4_resets_0 11 rfl rfl)
theorem dX4_resets_12 : decode cX4_resets 12 = .ok (.getfield 146, 3) := dk_180 0 146 (dk_at dksX4_resets_0 12 rfl rfl)
theorem dX4_resets_15 : decode cX4_resets 15 = .ok (.iconst 1, 1) := dk_4 (dk_at dksX4_resets_0 15 rfl rfl)
theorem dX4_resets_16 : decode cX4_resets 16 = .ok (.invokevirtual 379, 3) := dk_182 1 123 (dk_at dksX4_resets_0 16 rfl rfl)
theorem dX4_resets_19 : decode cX4_resets 19 = .ok (.invokevirtual 233, 3) := dk_182 0 233 (dk_at dksX4_resets_0 19 rfl rfl)
theorem dX4_resets_22 : decode cX4_resets 22 = .ok (.ireturn, 1) := dk_172 (dk_at dksX4_resets_0 22 rfl rfl)
abbrev cX4_resetsAll : ByteArray := prog_13_method_68_code
def yX4_resetsAll : MethodName := ⟨RX4, "resetsAll", "([IZ)I"⟩
def dkwX4_resetsAll_9 : List UInt8 := [21, 4, 133, 182, 1, 89, 42, 21, 5, 133, 182, 1, 89, 29, 21, 4, 96, 21, 5, 96, 172]
abbrev dktX4_resetsAll_9 : List UInt8 := dkwX4_resetsAll_9 ++ []
def dkwX4_resetsAll_8 : List UInt8 := [3, 79, 132, 6, 1, 167, 255, 213, 28, 153, 0, 28, 42, 3, 181, 0, 11, 42, 29, 133, 182, 1, 89, 42]
abbrev dktX4_resetsAll_8 : List UInt8 := dkwX4_resetsAll_8 ++ dktX4_resetsAll_9
def dkwX4_resetsAll_7 : List UInt8 := [17, 3, 46, 21, 6, 96, 46, 79, 43, 17, 3, 54, 21, 6, 96, 7, 79, 43, 17, 3, 72, 21, 6, 96]
abbrev dktX4_resetsAll_7 : List UInt8 := dkwX4_resetsAll_7 ++ dktX4_resetsAll_8
def dkwX4_resetsAll_6 : List UInt8 := [17, 3, 46, 3, 79, 3, 54, 6, 21, 6, 7, 162, 0, 43, 43, 17, 3, 50, 21, 6, 96, 43]
abbrev dktX4_resetsAll_6 : List UInt8 := dkwX4_resetsAll_6 ++ dktX4_resetsAll_7
def dkwX4_resetsAll_5 : List UInt8 := [184, 1, 22, 132, 7, 1, 167, 255, 237, 132, 6, 1, 167, 255, 180, 43, 17, 1, 237, 3, 79, 43]
abbrev dktX4_resetsAll_5 : List UInt8 := dkwX4_resetsAll_5 ++ dktX4_resetsAll_6
def dkwX4_resetsAll_4 : List UInt8 := [184, 0, 220, 100, 96, 54, 5, 3, 54, 7, 21, 7, 16, 89, 162, 0, 18, 43, 21, 6, 21, 7, 3]
abbrev dktX4_resetsAll_4 : List UInt8 := dkwX4_resetsAll_4 ++ dktX4_resetsAll_5
def dkwX4_resetsAll_3 : List UInt8 := [21, 6, 6, 184, 0, 220, 100, 96, 62, 21, 5, 43, 21, 6, 8, 184, 0, 220, 43, 21, 6, 16, 6]
abbrev dktX4_resetsAll_3 : List UInt8 := dkwX4_resetsAll_3 ++ dktX4_resetsAll_4
def dkwX4_resetsAll_2 : List UInt8 := [167, 255, 227, 3, 54, 6, 21, 6, 42, 180, 0, 198, 162, 0, 73, 29, 43, 21, 6, 3, 184, 0, 220, 43]
abbrev dktX4_resetsAll_2 : List UInt8 := dkwX4_resetsAll_2 ++ dktX4_resetsAll_3
def dkwX4_resetsAll_1 : List UInt8 := [162, 0, 25, 21, 4, 4, 43, 21, 6, 184, 0, 242, 184, 0, 40, 96, 96, 54, 4, 132, 6, 1]
abbrev dktX4_resetsAll_1 : List UInt8 := dkwX4_resetsAll_1 ++ dktX4_resetsAll_2
def dkwX4_resetsAll_0 : List UInt8 := [3, 62, 3, 54, 4, 43, 17, 3, 46, 46, 54, 5, 3, 54, 6, 21, 6, 43, 17, 1, 237, 46]
abbrev dktX4_resetsAll_0 : List UInt8 := dkwX4_resetsAll_0 ++ dktX4_resetsAll_1
theorem dksX4_resetsAll_0 : cX4_resetsAll.data.toList.drop 0 = dktX4_resetsAll_0 := by decide +kernel
theorem dksX4_resetsAll_1 : cX4_resetsAll.data.toList.drop 22 = dktX4_resetsAll_1 := dk_seg dksX4_resetsAll_0 22 rfl rfl
theorem dksX4_resetsAll_2 : cX4_resetsAll.data.toList.drop 44 = dktX4_resetsAll_2 := dk_seg dksX4_resetsAll_1 22 rfl rfl
theorem dksX4_resetsAll_3 : cX4_resetsAll.data.toList.drop 68 = dktX4_resetsAll_3 := dk_seg dksX4_resetsAll_2 24 rfl rfl
theorem dksX4_resetsAll_4 : cX4_resetsAll.data.toList.drop 91 = dktX4_resetsAll_4 := dk_seg dksX4_resetsAll_3 23 rfl rfl
theorem dksX4_resetsAll_5 : cX4_resetsAll.data.toList.drop 114 = dktX4_resetsAll_5 := dk_seg dksX4_resetsAll_4 23 rfl rfl
theorem dksX4_resetsAll_6 : cX4_resetsAll.data.toList.drop 136 = dktX4_resetsAll_6 := dk_seg dksX4_resetsAll_5 22 rfl rfl
theorem dksX4_resetsAll_7 : cX4_resetsAll.data.toList.drop 158 = dktX4_resetsAll_7 := dk_seg dksX4_resetsAll_6 22 rfl rfl
theorem dksX4_resetsAll_8 : cX4_resetsAll.data.toList.drop 182 = dktX4_resetsAll_8 := dk_seg dksX4_resetsAll_7 24 rfl rfl
theorem dksX4_resetsAll_9 : cX4_resetsAll.data.toList.drop 206 = dktX4_resetsAll_9 := dk_seg dksX4_resetsAll_8 24 rfl rfl
theorem dX4_resetsAll_0 : decode cX4_resetsAll 0 = .ok (.iconst 0, 1) := dk_3 (dk_at dksX4_resetsAll_0 0 rfl rfl)
theorem dX4_resetsAll_1 : decode cX4_resetsAll 1 = .ok (.istore_n 3, 1) := dk_62 (dk_at dksX4_resetsAll_0 1 rfl rfl)
theorem dX4_resetsAll_2 : decode cX4_resetsAll 2 = .ok (.iconst 0, 1) := dk_3 (dk_at dksX4_resetsAll_0 2 rfl rfl)
theorem dX4_resetsAll_3 : decode cX4_resetsAll 3 = .ok (.istore 4, 2) := dk_54 4 (dk_at dksX4_resetsAll_0 3 rfl rfl)
theorem dX4_resetsAll_5 : decode cX4_resetsAll 5 = .ok (.aload_n 1, 1) := dk_43 (dk_at dksX4_resetsAll_0 5 rfl rfl)
theorem dX4_resetsAll_6 : decode cX4_resetsAll 6 = .ok (.sipush 814, 3) := dk_17 3 46 (dk_at dksX4_resetsAll_0 6 rfl rfl)
theorem dX4_resetsAll_9 : decode cX4_resetsAll 9 = .ok (.iaload, 1) := dk_46 (dk_at dksX4_resetsAll_0 9 rfl rfl)
theorem dX4_resetsAll_10 : decode cX4_resetsAll 10 = .ok (.istore 5, 2) := dk_54 5 (dk_at dksX4_resetsAll_0 10 rfl rfl)
theorem dX4_resetsAll_12 : decode cX4_resetsAll 12 = .ok (.iconst 0, 1) := dk_3 (dk_at dksX4_resetsAll_0 12 rfl rfl)
theorem dX4_resetsAll_13 : decode cX4_resetsAll 13 = .ok (.istore 6, 2) := dk_54 6 (dk_at dksX4_resetsAll_0 13 rfl rfl)
theorem dX4_resetsAll_15 : decode cX4_resetsAll 15 = .ok (.iload 6, 2) := dk_21 6 (dk_at dksX4_resetsAll_0 15 rfl rfl)
theorem dX4_resetsAll_17 : decode cX4_resetsAll 17 = .ok (.aload_n 1, 1) := dk_43 (dk_at dksX4_resetsAll_0 17 rfl rfl)
theorem dX4_resetsAll_18 : decode cX4_resetsAll 18 = .ok (.sipush 493, 3) := dk_17 1 237 (dk_at dksX4_resetsAll_0 18 rfl rfl)
theorem dX4_resetsAll_21 : decode cX4_resetsAll 21 = .ok (.iaload, 1) := dk_46 (dk_at dksX4_resetsAll_0 21 rfl rfl)
theorem dX4_resetsAll_22 : decode cX4_resetsAll 22 = .ok (.if_icmp .ge 25, 3) := dk_162 0 25 (dk_at dksX4_resetsAll_1 0 rfl rfl)
theorem dX4_resetsAll_25 : decode cX4_resetsAll 25 = .ok (.iload 4, 2) := dk_21 4 (dk_at dksX4_resetsAll_1 3 rfl rfl)
theorem dX4_resetsAll_27 : decode cX4_resetsAll 27 = .ok (.iconst 1, 1) := dk_4 (dk_at dksX4_resetsAll_1 5 rfl rfl)
theorem dX4_resetsAll_28 : decode cX4_resetsAll 28 = .ok (.aload_n 1, 1) := dk_43 (dk_at dksX4_resetsAll_1 6 rfl rfl)
theorem dX4_resetsAll_29 : decode cX4_resetsAll 29 = .ok (.iload 6, 2) := dk_21 6 (dk_at dksX4_resetsAll_1 7 rfl rfl)
theorem dX4_resetsAll_31 : decode cX4_resetsAll 31 = .ok (.invokestatic 242, 3) := dk_184 0 242 (dk_at dksX4_resetsAll_1 9 rfl rfl)
theorem dX4_resetsAll_34 : decode cX4_resetsAll 34 = .ok (.invokestatic 40, 3) := dk_184 0 40 (dk_at dksX4_resetsAll_1 12 rfl rfl)
theorem dX4_resetsAll_37 : decode cX4_resetsAll 37 = .ok (.iadd, 1) := dk_96 (dk_at dksX4_resetsAll_1 15 rfl rfl)
theorem dX4_resetsAll_38 : decode cX4_resetsAll 38 = .ok (.iadd, 1) := dk_96 (dk_at dksX4_resetsAll_1 16 rfl rfl)
theorem dX4_resetsAll_39 : decode cX4_resetsAll 39 = .ok (.istore 4, 2) := dk_54 4 (dk_at dksX4_resetsAll_1 17 rfl rfl)
theorem dX4_resetsAll_41 : decode cX4_resetsAll 41 = .ok (.iinc 6 1, 3) := dk_132 6 1 (dk_at dksX4_resetsAll_1 19 rfl rfl)
theorem dX4_resetsAll_44 : decode cX4_resetsAll 44 = .ok (.goto (-29), 3) := dk_167 255 227 (dk_at dksX4_resetsAll_2 0 rfl rfl)
theorem dX4_resetsAll_47 : decode cX4_resetsAll 47 = .ok (.iconst 0, 1) := dk_3 (dk_at dksX4_resetsAll_2 3 rfl rfl)
theorem dX4_resetsAll_48 : decode cX4_resetsAll 48 = .ok (.istore 6, 2) := dk_54 6 (dk_at dksX4_resetsAll_2 4 rfl rfl)
theorem dX4_resetsAll_50 : decode cX4_resetsAll 50 = .ok (.iload 6, 2) := dk_21 6 (dk_at dksX4_resetsAll_2 6 rfl rfl)
theorem dX4_resetsAll_52 : decode cX4_resetsAll 52 = .ok (.aload_n 0, 1) := dk_42 (dk_at dksX4_resetsAll_2 8 rfl rfl)
theorem dX4_resetsAll_53 : decode cX4_resetsAll 53 = .ok (.getfield 198, 3) := dk_180 0 198 (dk_at dksX4_resetsAll_2 9 rfl rfl)
theorem dX4_resetsAll_56 : decode cX4_resetsAll 56 = .ok (.if_icmp .ge 73, 3) := dk_162 0 73 (dk_at dksX4_resetsAll_2 12 rfl rfl)
theorem dX4_resetsAll_59 : decode cX4_resetsAll 59 = .ok (.iload_n 3, 1) := dk_29 (dk_at dksX4_resetsAll_2 15 rfl rfl)
theorem dX4_resetsAll_60 : decode cX4_resetsAll 60 = .ok (.aload_n 1, 1) := dk_43 (dk_at dksX4_resetsAll_2 16 rfl rfl)
theorem dX4_resetsAll_61 : decode cX4_resetsAll 61 = .ok (.iload 6, 2) := dk_21 6 (dk_at dksX4_resetsAll_2 17 rfl rfl)
theorem dX4_resetsAll_63 : decode cX4_resetsAll 63 = .ok (.iconst 0, 1) := dk_3 (dk_at dksX4_resetsAll_2 19 rfl rfl)
theorem dX4_resetsAll_64 : decode cX4_resetsAll 64 = .ok (.invokestatic 220, 3) := dk_184 0 220 (dk_at dksX4_resetsAll_2 20 rfl rfl)
theorem dX4_resetsAll_67 : decode cX4_resetsAll 67 = .ok (.aload_n 1, 1) := dk_43 (dk_at dksX4_resetsAll_2 23 rfl rfl)
theorem dX4_resetsAll_68 : decode cX4_resetsAll 68 = .ok (.iload 6, 2) := dk_21 6 (dk_at dksX4_resetsAll_3 0 rfl rfl)
theorem dX4_resetsAll_70 : decode cX4_resetsAll 70 = .ok (.iconst 3, 1) := dk_6 (dk_at dksX4_resetsAll_3 2 rfl rfl)
theorem dX4_resetsAll_71 : decode cX4_resetsAll 71 = .ok (.invokestatic 220, 3) := dk_184 0 220 (dk_at dksX4_resetsAll_3 3 rfl rfl)
theorem dX4_resetsAll_74 : decode cX4_resetsAll 74 = .ok (.isub, 1) := dk_100 (dk_at dksX4_resetsAll_3 6 rfl rfl)
theorem dX4_resetsAll_75 : decode cX4_resetsAll 75 = .ok (.iadd, 1) := dk_96 (dk_at dksX4_resetsAll_3 7 rfl rfl)
theorem dX4_resetsAll_76 : decode cX4_resetsAll 76 = .ok (.istore_n 3, 1) := dk_62 (dk_at dksX4_resetsAll_3 8 rfl rfl)
theorem dX4_resetsAll_77 : decode cX4_resetsAll 77 = .ok (.iload 5, 2) := dk_21 5 (dk_at dksX4_resetsAll_3 9 rfl rfl)
theorem dX4_resetsAll_79 : decode cX4_resetsAll 79 = .ok (.aload_n 1, 1) := dk_43 (dk_at dksX4_resetsAll_3 11 rfl rfl)
theorem dX4_resetsAll_80 : decode cX4_resetsAll 80 = .ok (.iload 6, 2) := dk_21 6 (dk_at dksX4_resetsAll_3 12 rfl rfl)
theorem dX4_resetsAll_82 : decode cX4_resetsAll 82 = .ok (.iconst 5, 1) := dk_8 (dk_at dksX4_resetsAll_3 14 rfl rfl)
theorem dX4_resetsAll_83 : decode cX4_resetsAll 83 = .ok (.invokestatic 220, 3) := dk_184 0 220 (dk_at dksX4_resetsAll_3 15 rfl rfl)
theorem dX4_resetsAll_86 : decode cX4_resetsAll 86 = .ok (.aload_n 1, 1) := dk_43 (dk_at dksX4_resetsAll_3 18 rfl rfl)
theorem dX4_resetsAll_87 : decode cX4_resetsAll 87 = .ok (.iload 6, 2) := dk_21 6 (dk_at dksX4_resetsAll_3 19 rfl rfl)
theorem dX4_resetsAll_89 : decode cX4_resetsAll 89 = .ok (.bipush 6, 2) := dk_16 6 (dk_at dksX4_resetsAll_3 21 rfl rfl)
theorem dX4_resetsAll_91 : decode cX4_resetsAll 91 = .ok (.invokestatic 220, 3) := dk_184 0 220 (dk_at dksX4_resetsAll_4 0 rfl rfl)
theorem dX4_resetsAll_94 : decode cX4_resetsAll 94 = .ok (.isub, 1) := dk_100 (dk_at dksX4_resetsAll_4 3 rfl rfl)
theorem dX4_resetsAll_95 : decode cX4_resetsAll 95 = .ok (.iadd, 1) := dk_96 (dk_at dksX4_resetsAll_4 4 rfl rfl)
theorem dX4_resetsAll_96 : decode cX4_resetsAll 96 = .ok (.istore 5, 2) := dk_54 5 (dk_at dksX4_resetsAll_4 5 rfl rfl)
theorem dX4_resetsAll_98 : decode cX4_resetsAll 98 = .ok (.iconst 0, 1) := dk_3 (dk_at dksX4_resetsAll_4 7 rfl rfl)
theorem dX4_resetsAll_99 : decode cX4_resetsAll 99 = .ok (.istore 7, 2) := dk_54 7 (dk_at dksX4_resetsAll_4 8 rfl rfl)
theorem dX4_resetsAll_101 : decode cX4_resetsAll 101 = .ok (.iload 7, 2) := dk_21 7 (dk_at dksX4_resetsAll_4 10 rfl rfl)
theorem dX4_resetsAll_103 : decode cX4_resetsAll 103 = .ok (.bipush 89, 2) := dk_16 89 (dk_at dksX4_resetsAll_4 12 rfl rfl)
theorem dX4_resetsAll_105 : decode cX4_resetsAll 105 = .ok (.if_icmp .ge 18, 3) := dk_162 0 18 (dk_at dksX4_resetsAll_4 14 rfl rfl)
theorem dX4_resetsAll_108 : decode cX4_resetsAll 108 = .ok (.aload_n 1, 1) := dk_43 (dk_at dksX4_resetsAll_4 17 rfl rfl)
theorem dX4_resetsAll_109 : decode cX4_resetsAll 109 = .ok (.iload 6, 2) := dk_21 6 (dk_at dksX4_resetsAll_4 18 rfl rfl)
theorem dX4_resetsAll_111 : decode cX4_resetsAll 111 = .ok (.iload 7, 2) := dk_21 7 (dk_at dksX4_resetsAll_4 20 rfl rfl)
theorem dX4_resetsAll_113 : decode cX4_resetsAll 113 = .ok (.iconst 0, 1) := dk_3 (dk_at dksX4_resetsAll_4 22 rfl rfl)
theorem dX4_resetsAll_114 : decode cX4_resetsAll 114 = .ok (.invokestatic 278, 3) := dk_184 1 22 (dk_at dksX4_resetsAll_5 0 rfl rfl)
theorem dX4_resetsAll_117 : decode cX4_resetsAll 117 = .ok (.iinc 7 1, 3) := dk_132 7 1 (dk_at dksX4_resetsAll_5 3 rfl rfl)
theorem dX4_resetsAll_120 : decode cX4_resetsAll 120 = .ok (.goto (-19), 3) := dk_167 255 237 (dk_at dksX4_resetsAll_5 6 rfl rfl)
theorem dX4_resetsAll_123 : decode cX4_resetsAll 123 = .ok (.iinc 6 1, 3) := dk_132 6 1 (dk_at dksX4_resetsAll_5 9 rfl rfl)
theorem dX4_resetsAll_126 : decode cX4_resetsAll 126 = .ok (.goto (-76), 3) := dk_167 255 180 (dk_at dksX4_resetsAll_5 12 rfl rfl)
theorem dX4_resetsAll_129 : decode cX4_resetsAll 129 = .ok (.aload_n 1, 1) := dk_43 (dk_at dksX4_resetsAll_5 15 rfl rfl)
theorem dX4_resetsAll_130 : decode cX4_resetsAll 130 = .ok (.sipush 493, 3) := dk_17 1 237 (dk_at dksX4_resetsAll_5 16 rfl rfl)
theorem dX4_resetsAll_133 : decode cX4_resetsAll 133 = .ok (.iconst 0, 1) := dk_3 (dk_at dksX4_resetsAll_5 19 rfl rfl)
theorem dX4_resetsAll_134 : decode cX4_resetsAll 134 = .ok (.iastore, 1) := dk_79 (dk_at dksX4_resetsAll_5 20 rfl rfl)
theorem dX4_resetsAll_135 : decode cX4_resetsAll 135 = .ok (.aload_n 1, 1) := dk_43 (dk_at dksX4_resetsAll_5 21 rfl rfl)
theorem dX4_resetsAll_136 : decode cX4_resetsAll 136 = .ok (.sipush 814, 3) := dk_17 3 46 (dk_at dksX4_resetsAll_6 0 rfl rfl)
theorem dX4_resetsAll_139 : decode cX4_resetsAll 139 = .ok (.iconst 0, 1) := dk_3 (dk_at dksX4_resetsAll_6 3 rfl rfl)
theorem dX4_resetsAll_140 : decode cX4_resetsAll 140 = .ok (.iastore, 1) := dk_79 (dk_at dksX4_resetsAll_6 4 rfl rfl)
theorem dX4_resetsAll_141 : decode cX4_resetsAll 141 = .ok (.iconst 0, 1) := dk_3 (dk_at dksX4_resetsAll_6 5 rfl rfl)
theorem dX4_resetsAll_142 : decode cX4_resetsAll 142 = .ok (.istore 6, 2) := dk_54 6 (dk_at dksX4_resetsAll_6 6 rfl rfl)
theorem dX4_resetsAll_144 : decode cX4_resetsAll 144 = .ok (.iload 6, 2) := dk_21 6 (dk_at dksX4_resetsAll_6 8 rfl rfl)
theorem dX4_resetsAll_146 : decode cX4_resetsAll 146 = .ok (.iconst 4, 1) := dk_7 (dk_at dksX4_resetsAll_6 10 rfl rfl)
theorem dX4_resetsAll_147 : decode cX4_resetsAll 147 = .ok (.if_icmp .ge 43, 3) := dk_162 0 43 (dk_at dksX4_resetsAll_6 11 rfl rfl)
theorem dX4_resetsAll_150 : decode cX4_resetsAll 150 = .ok (.aload_n 1, 1) := dk_43 (dk_at dksX4_resetsAll_6 14 rfl rfl)
theorem dX4_resetsAll_151 : decode cX4_resetsAll 151 = .ok (.sipush 818, 3) := dk_17 3 50 (dk_at dksX4_resetsAll_6 15 rfl rfl)
theorem dX4_resetsAll_154 : decode cX4_resetsAll 154 = .ok (.iload 6, 2) := dk_21 6 (dk_at dksX4_resetsAll_6 18 rfl rfl)
theorem dX4_resetsAll_156 : decode cX4_resetsAll 156 = .ok (.iadd, 1) := dk_96 (dk_at dksX4_resetsAll_6 20 rfl rfl)
theorem dX4_resetsAll_157 : decode cX4_resetsAll 157 = .ok (.aload_n 1, 1) := dk_43 (dk_at dksX4_resetsAll_6 21 rfl rfl)
theorem dX4_resetsAll_158 : decode cX4_resetsAll 158 = .ok (.sipush 814, 3) := dk_17 3 46 (dk_at dksX4_resetsAll_7 0 rfl rfl)
theorem dX4_resetsAll_161 : decode cX4_resetsAll 161 = .ok (.iload 6, 2) := dk_21 6 (dk_at dksX4_resetsAll_7 3 rfl rfl)
theorem dX4_resetsAll_163 : decode cX4_resetsAll 163 = .ok (.iadd, 1) := dk_96 (dk_at dksX4_resetsAll_7 5 rfl rfl)
theorem dX4_resetsAll_164 : decode cX4_resetsAll 164 = .ok (.iaload, 1) := dk_46 (dk_at dksX4_resetsAll_7 6 rfl rfl)
theorem dX4_resetsAll_165 : decode cX4_resetsAll 165 = .ok (.iastore, 1) := dk_79 (dk_at dksX4_resetsAll_7 7 rfl rfl)
theorem dX4_resetsAll_166 : decode cX4_resetsAll 166 = .ok (.aload_n 1, 1) := dk_43 (dk_at dksX4_resetsAll_7 8 rfl rfl)
theorem dX4_resetsAll_167 : decode cX4_resetsAll 167 = .ok (.sipush 822, 3) := dk_17 3 54 (dk_at dksX4_resetsAll_7 9 rfl rfl)
theorem dX4_resetsAll_170 : decode cX4_resetsAll 170 = .ok (.iload 6, 2) := dk_21 6 (dk_at dksX4_resetsAll_7 12 rfl rfl)
theorem dX4_resetsAll_172 : decode cX4_resetsAll 172 = .ok (.iadd, 1) := dk_96 (dk_at dksX4_resetsAll_7 14 rfl rfl)
theorem dX4_resetsAll_173 : decode cX4_resetsAll 173 = .ok (.iconst 4, 1) := dk_7 (dk_at dksX4_resetsAll_7 15 rfl rfl)
theorem dX4_resetsAll_174 : decode cX4_resetsAll 174 = .ok (.iastore, 1) := dk_79 (dk_at dksX4_resetsAll_7 16 rfl rfl)
theorem dX4_resetsAll_175 : decode cX4_resetsAll 175 = .ok (.aload_n 1, 1) := dk_43 (dk_at dksX4_resetsAll_7 17 rfl rfl)
theorem dX4_resetsAll_176 : decode cX4_resetsAll 176 = .ok (.sipush 840, 3) := dk_17 3 72 (dk_at dksX4_resetsAll_7 18 rfl rfl)
theorem dX4_resetsAll_179 : decode cX4_resetsAll 179 = .ok (.iload 6, 2) := dk_21 6 (dk_at dksX4_resetsAll_7 21 rfl rfl)
theorem dX4_resetsAll_181 : decode cX4_resetsAll 181 = .ok (.iadd, 1) := dk_96 (dk_at dksX4_resetsAll_7 23 rfl rfl)
theorem dX4_resetsAll_182 : decode cX4_resetsAll 182 = .ok (.iconst 0, 1) := dk_3 (dk_at dksX4_resetsAll_8 0 rfl rfl)
theorem dX4_resetsAll_183 : decode cX4_resetsAll 183 = .ok (.iastore, 1) := dk_79 (dk_at dksX4_resetsAll_8 1 rfl rfl)
theorem dX4_resetsAll_184 : decode cX4_resetsAll 184 = .ok (.iinc 6 1, 3) := dk_132 6 1 (dk_at dksX4_resetsAll_8 2 rfl rfl)
theorem dX4_resetsAll_187 : decode cX4_resetsAll 187 = .ok (.goto (-43), 3) := dk_167 255 213 (dk_at dksX4_resetsAll_8 5 rfl rfl)
theorem dX4_resetsAll_190 : decode cX4_resetsAll 190 = .ok (.iload_n 2, 1) := dk_28 (dk_at dksX4_resetsAll_8 8 rfl rfl)
theorem dX4_resetsAll_191 : decode cX4_resetsAll 191 = .ok (.ifCond .eq 28, 3) := dk_153 0 28 (dk_at dksX4_resetsAll_8 9 rfl rfl)
theorem dX4_resetsAll_194 : decode cX4_resetsAll 194 = .ok (.aload_n 0, 1) := dk_42 (dk_at dksX4_resetsAll_8 12 rfl rfl)
theorem dX4_resetsAll_195 : decode cX4_resetsAll 195 = .ok (.iconst 0, 1) := dk_3 (dk_at dksX4_resetsAll_8 13 rfl rfl)
theorem dX4_resetsAll_196 : decode cX4_resetsAll 196 = .ok (.putfield 11, 3) := dk_181 0 11 (dk_at dksX4_resetsAll_8 14 rfl rfl)
theorem dX4_resetsAll_199 : decode cX4_resetsAll 199 = .ok (.aload_n 0, 1) := dk_42 (dk_at dksX4_resetsAll_8 17 rfl rfl)
theorem dX4_resetsAll_200 : decode cX4_resetsAll 200 = .ok (.iload_n 3, 1) := dk_29 (dk_at dksX4_resetsAll_8 18 rfl rfl)
theorem dX4_resetsAll_201 : decode cX4_resetsAll 201 = .ok (.i2l, 1) := dk_133 (dk_at dksX4_resetsAll_8 19 rfl rfl)
theorem dX4_resetsAll_202 : decode cX4_resetsAll 202 = .ok (.invokevirtual 345, 3) := dk_182 1 89 (dk_at dksX4_resetsAll_8 20 rfl rfl)
theorem dX4_resetsAll_205 : decode cX4_resetsAll 205 = .ok (.aload_n 0, 1) := dk_42 (dk_at dksX4_resetsAll_8 23 rfl rfl)
theorem dX4_resetsAll_206 : decode cX4_resetsAll 206 = .ok (.iload 4, 2) := dk_21 4 (dk_at dksX4_resetsAll_9 0 rfl rfl)
theorem dX4_resetsAll_208 : decode cX4_resetsAll 208 = .ok (.i2l, 1) := dk_133 (dk_at dksX4_resetsAll_9 2 rfl rfl)
theorem dX4_resetsAll_209 : decode cX4_resetsAll 209 = .ok (.invokevirtual 345, 3) := dk_182 1 89 (dk_at dksX4_resetsAll_9 3 rfl rfl)
theorem dX4_resetsAll_212 : decode cX4_resetsAll 212 = .ok (.aload_n 0, 1) := dk_42 (dk_at dksX4_resetsAll_9 6 rfl rfl)
theorem dX4_resetsAll_213 : decode cX4_resetsAll 213 = .ok (.iload 5, 2) := dk_21 5 (dk_at dksX4_resetsAll_9 7 rfl rfl)
theorem dX4_resetsAll_215 : decode cX4_resetsAll 215 = .ok (.i2l, 1) := dk_133 (dk_at dksX4_resetsAll_9 9 rfl rfl)
theorem dX4_resetsAll_216 : decode cX4_resetsAll 216 = .ok (.invokevirtual 345, 3) := dk_182 1 89 (dk_at dksX4_resetsAll_9 10 rfl rfl)
theorem dX4_resetsAll_219 : decode cX4_resetsAll 219 = .ok (.iload_n 3, 1) := dk_29 (dk_at dksX4_resetsAll_9 13 rfl rfl)
theorem dX4_resetsAll_220 : decode cX4_resetsAll 220 = .ok (.iload 4, 2) := dk_21 4 (dk_at dksX4_resetsAll_9 14 rfl rfl)
theorem dX4_resetsAll_222 : decode cX4_resetsAll 222 = .ok (.iadd, 1) := dk_96 (dk_at dksX4_resetsAll_9 16 rfl rfl)
theorem dX4_resetsAll_223 : decode cX4_resetsAll 223 = .ok (.iload 5, 2) := dk_21 5 (dk_at dksX4_resetsAll_9 17 rfl rfl)
theorem dX4_resetsAll_225 : decode cX4_resetsAll 225 = .ok (.iadd, 1) := dk_96 (dk_at dksX4_resetsAll_9 19 rfl rfl)
theorem dX4_resetsAll_226 : decode cX4_resetsAll 226 = .ok (.ireturn, 1) := dk_172 (dk_at dksX4_resetsAll_9 20 rfl rfl)
abbrev cX4_weighs : ByteArray := prog_13_method_78_code
def yX4_weighs : MethodName := ⟨RX4, "weighs", "(II)I"⟩
def dkwX4_weighs_0 : List UInt8 := [42, 3, 181, 0, 3, 42, 182, 1, 99, 42, 42, 180, 0, 146, 27, 28, 184, 1, 127, 182, 1, 106, 172]
abbrev dktX4_weighs_0 : List UInt8 := dkwX4_weighs_0 ++ []
theorem dksX4_weighs_0 : cX4_weighs.data.toList.drop 0 = dktX4_weighs_0 := by decide +kernel
theorem dX4_weighs_0 : decode cX4_weighs 0 = .ok (.aload_n 0, 1) := dk_42 (dk_at dksX4_weighs_0 0 rfl rfl)
theorem dX4_weighs_1 : decode cX4_weighs 1 = .ok (.iconst 0, 1) := dk_3 (dk_at dksX4_weighs_0 1 rfl rfl)
theorem dX4_weighs_2 : decode cX4_weighs 2 = .ok (.putfield 3, 3) := dk_181 0 3 (dk_at dksX4_weighs_0 2 rfl rfl)
theorem dX4_weighs_5 : decode cX4_weighs 5 = .ok (.aload_n 0, 1) := dk_42 (dk_at dksX4_weighs_0 5 rfl rfl)
theorem dX4_weighs_6 : decode cX4_weighs 6 = .ok (.invokevirtual 355, 3) := dk_182 1 99 (dk_at dksX4_weighs_0 6 rfl rfl)
theorem dX4_weighs_9 : decode cX4_weighs 9 = .ok (.aload_n 0, 1) := dk_42 (dk_at dksX4_weighs_0 9 rfl rfl)
theorem dX4_weighs_10 : decode cX4_weighs 10 = .ok (.aload_n 0, 1) := dk_42 (dk_at dksX4_weighs_0 10 rfl rfl)
theorem dX4_weighs_11 : decode cX4_weighs 11 = .ok (.getfield 146, 3) := dk_180 0 146 (dk_at dksX4_weighs_0 11 rfl rfl)
theorem dX4_weighs_14 : decode cX4_weighs 14 = .ok (.iload_n 1, 1) := dk_27 (dk_at dksX4_weighs_0 14 rfl rfl)
theorem dX4_weighs_15 : decode cX4_weighs 15 = .ok (.iload_n 2, 1) := dk_28 (dk_at dksX4_weighs_0 15 rfl rfl)
theorem dX4_weighs_16 : decode cX4_weighs 16 = .ok (.invokestatic 383, 3) := dk_184 1 127 (dk_at dksX4_weighs_0 16 rfl rfl)
theorem dX4_weighs_19 : decode cX4_weighs 19 = .ok (.invokevirtual 362, 3) := dk_182 1 106 (dk_at dksX4_weighs_0 19 rfl rfl)
theorem dX4_weighs_22 : decode cX4_weighs 22 = .ok (.ireturn, 1) := dk_172 (dk_at dksX4_weighs_0 22 rfl rfl)
abbrev cX4_weighsOne : ByteArray := prog_13_method_69_code
def yX4_weighsOne : MethodName := ⟨RX4, "weighsOne", "([III)I"⟩
def dkwX4_weighsOne_2 : List UInt8 := [28, 79, 42, 17, 3, 50, 27, 96, 28, 79, 16, 10, 29, 96, 172]
abbrev dktX4_weighsOne_2 : List UInt8 := dkwX4_weighsOne_2 ++ []
def dkwX4_weighsOne_1 : List UInt8 := [2, 172, 42, 17, 3, 46, 27, 96, 46, 62, 29, 28, 160, 0, 6, 16, 254, 172, 42, 17, 3, 46, 27, 96]
abbrev dktX4_weighsOne_1 : List UInt8 := dkwX4_weighsOne_1 ++ dktX4_weighsOne_2
def dkwX4_weighsOne_0 : List UInt8 := [27, 133, 10, 20, 0, 224, 184, 0, 21, 153, 0, 15, 28, 133, 10, 20, 1, 14, 184, 0, 21, 154, 0, 5]
abbrev dktX4_weighsOne_0 : List UInt8 := dkwX4_weighsOne_0 ++ dktX4_weighsOne_1
theorem dksX4_weighsOne_0 : cX4_weighsOne.data.toList.drop 0 = dktX4_weighsOne_0 := by decide +kernel
theorem dksX4_weighsOne_1 : cX4_weighsOne.data.toList.drop 24 = dktX4_weighsOne_1 := dk_seg dksX4_weighsOne_0 24 rfl rfl
theorem dksX4_weighsOne_2 : cX4_weighsOne.data.toList.drop 48 = dktX4_weighsOne_2 := dk_seg dksX4_weighsOne_1 24 rfl rfl
theorem dX4_weighsOne_0 : decode cX4_weighsOne 0 = .ok (.iload_n 1, 1) := dk_27 (dk_at dksX4_weighsOne_0 0 rfl rfl)
theorem dX4_weighsOne_1 : decode cX4_weighsOne 1 = .ok (.i2l, 1) := dk_133 (dk_at dksX4_weighsOne_0 1 rfl rfl)
theorem dX4_weighsOne_2 : decode cX4_weighsOne 2 = .ok (.lconst 1, 1) := dk_10 (dk_at dksX4_weighsOne_0 2 rfl rfl)
theorem dX4_weighsOne_3 : decode cX4_weighsOne 3 = .ok (.ldc2_w 224, 3) := dk_20 0 224 (dk_at dksX4_weighsOne_0 3 rfl rfl)
theorem dX4_weighsOne_6 : decode cX4_weighsOne 6 = .ok (.invokestatic 21, 3) := dk_184 0 21 (dk_at dksX4_weighsOne_0 6 rfl rfl)
theorem dX4_weighsOne_9 : decode cX4_weighsOne 9 = .ok (.ifCond .eq 15, 3) := dk_153 0 15 (dk_at dksX4_weighsOne_0 9 rfl rfl)
theorem dX4_weighsOne_12 : decode cX4_weighsOne 12 = .ok (.iload_n 2, 1) := dk_28 (dk_at dksX4_weighsOne_0 12 rfl rfl)
theorem dX4_weighsOne_13 : decode cX4_weighsOne 13 = .ok (.i2l, 1) := dk_133 (dk_at dksX4_weighsOne_0 13 rfl rfl)
theorem dX4_weighsOne_14 : decode cX4_weighsOne 14 = .ok (.lconst 1, 1) := dk_10 (dk_at dksX4_weighsOne_0 14 rfl rfl)
theorem dX4_weighsOne_15 : decode cX4_weighsOne 15 = .ok (.ldc2_w 270, 3) := dk_20 1 14 (dk_at dksX4_weighsOne_0 15 rfl rfl)
theorem dX4_weighsOne_18 : decode cX4_weighsOne 18 = .ok (.invokestatic 21, 3) := dk_184 0 21 (dk_at dksX4_weighsOne_0 18 rfl rfl)
theorem dX4_weighsOne_21 : decode cX4_weighsOne 21 = .ok (.ifCond .ne 5, 3) := dk_154 0 5 (dk_at dksX4_weighsOne_0 21 rfl rfl)
theorem dX4_weighsOne_24 : decode cX4_weighsOne 24 = .ok (.iconst (-1), 1) := dk_2 (dk_at dksX4_weighsOne_1 0 rfl rfl)
theorem dX4_weighsOne_25 : decode cX4_weighsOne 25 = .ok (.ireturn, 1) := dk_172 (dk_at dksX4_weighsOne_1 1 rfl rfl)
theorem dX4_weighsOne_26 : decode cX4_weighsOne 26 = .ok (.aload_n 0, 1) := dk_42 (dk_at dksX4_weighsOne_1 2 rfl rfl)
theorem dX4_weighsOne_27 : decode cX4_weighsOne 27 = .ok (.sipush 814, 3) := dk_17 3 46 (dk_at dksX4_weighsOne_1 3 rfl rfl)
theorem dX4_weighsOne_30 : decode cX4_weighsOne 30 = .ok (.iload_n 1, 1) := dk_27 (dk_at dksX4_weighsOne_1 6 rfl rfl)
theorem dX4_weighsOne_31 : decode cX4_weighsOne 31 = .ok (.iadd, 1) := dk_96 (dk_at dksX4_weighsOne_1 7 rfl rfl)
theorem dX4_weighsOne_32 : decode cX4_weighsOne 32 = .ok (.iaload, 1) := dk_46 (dk_at dksX4_weighsOne_1 8 rfl rfl)
theorem dX4_weighsOne_33 : decode cX4_weighsOne 33 = .ok (.istore_n 3, 1) := dk_62 (dk_at dksX4_weighsOne_1 9 rfl rfl)
theorem dX4_weighsOne_34 : decode cX4_weighsOne 34 = .ok (.iload_n 3, 1) := dk_29 (dk_at dksX4_weighsOne_1 10 rfl rfl)
theorem dX4_weighsOne_35 : decode cX4_weighsOne 35 = .ok (.iload_n 2, 1) := dk_28 (dk_at dksX4_weighsOne_1 11 rfl rfl)
theorem dX4_weighsOne_36 : decode cX4_weighsOne 36 = .ok (.if_icmp .ne 6, 3) := dk_160 0 6 (dk_at dksX4_weighsOne_1 12 rfl rfl)
theorem dX4_weighsOne_39 : decode cX4_weighsOne 39 = .ok (.bipush (-2), 2) := dk_16 254 (dk_at dksX4_weighsOne_1 15 rfl rfl)
theorem dX4_weighsOne_41 : decode cX4_weighsOne 41 = .ok (.ireturn, 1) := dk_172 (dk_at dksX4_weighsOne_1 17 rfl rfl)
theorem dX4_weighsOne_42 : decode cX4_weighsOne 42 = .ok (.aload_n 0, 1) := dk_42 (dk_at dksX4_weighsOne_1 18 rfl rfl)
theorem dX4_weighsOne_43 : decode cX4_weighsOne 43 = .ok (.sipush 814, 3) := dk_17 3 46 (dk_at dksX4_weighsOne_1 19 rfl rfl)
theorem dX4_weighsOne_46 : decode cX4_weighsOne 46 = .ok (.iload_n 1, 1) := dk_27 (dk_at dksX4_weighsOne_1 22 rfl rfl)
theorem dX4_weighsOne_47 : decode cX4_weighsOne 47 = .ok (.iadd, 1) := dk_96 (dk_at dksX4_weighsOne_1 23 rfl rfl)
theorem dX4_weighsOne_48 : decode cX4_weighsOne 48 = .ok (.iload_n 2, 1) := dk_28 (dk_at dksX4_weighsOne_2 0 rfl rfl)
theorem dX4_weighsOne_49 : decode cX4_weighsOne 49 = .ok (.iastore, 1) := dk_79 (dk_at dksX4_weighsOne_2 1 rfl rfl)
theorem dX4_weighsOne_50 : decode cX4_weighsOne 50 = .ok (.aload_n 0, 1) := dk_42 (dk_at dksX4_weighsOne_2 2 rfl rfl)
theorem dX4_weighsOne_51 : decode cX4_weighsOne 51 = .ok (.sipush 818, 3) := dk_17 3 50 (dk_at dksX4_weighsOne_2 3 rfl rfl)
theorem dX4_weighsOne_54 : decode cX4_weighsOne 54 = .ok (.iload_n 1, 1) := dk_27 (dk_at dksX4_weighsOne_2 6 rfl rfl)
theorem dX4_weighsOne_55 : decode cX4_weighsOne 55 = .ok (.iadd, 1) := dk_96 (dk_at dksX4_weighsOne_2 7 rfl rfl)
theorem dX4_weighsOne_56 : decode cX4_weighsOne 56 = .ok (.iload_n 2, 1) := dk_28 (dk_at dksX4_weighsOne_2 8 rfl rfl)
theorem dX4_weighsOne_57 : decode cX4_weighsOne 57 = .ok (.iastore, 1) := dk_79 (dk_at dksX4_weighsOne_2 9 rfl rfl)
theorem dX4_weighsOne_58 : decode cX4_weighsOne 58 = .ok (.bipush 10, 2) := dk_16 10 (dk_at dksX4_weighsOne_2 10 rfl rfl)
theorem dX4_weighsOne_60 : decode cX4_weighsOne 60 = .ok (.iload_n 3, 1) := dk_29 (dk_at dksX4_weighsOne_2 12 rfl rfl)
theorem dX4_weighsOne_61 : decode cX4_weighsOne 61 = .ok (.iadd, 1) := dk_96 (dk_at dksX4_weighsOne_2 13 rfl rfl)
theorem dX4_weighsOne_62 : decode cX4_weighsOne 62 = .ok (.ireturn, 1) := dk_172 (dk_at dksX4_weighsOne_2 14 rfl rfl)
abbrev cX4_depth : ByteArray := prog_13_method_79_code
def yX4_depth : MethodName := ⟨RX4, "depth", "(I)I"⟩
def dkwX4_depth_0 : List UInt8 := [42, 3, 181, 0, 3, 42, 182, 1, 99, 42, 42, 180, 0, 146, 27, 184, 1, 130, 182, 1, 106, 172]
abbrev dktX4_depth_0 : List UInt8 := dkwX4_depth_0 ++ []
theorem dksX4_depth_0 : cX4_depth.data.toList.drop 0 = dktX4_depth_0 := by decide +kernel
theorem dX4_depth_0 : decode cX4_depth 0 = .ok (.aload_n 0, 1) := dk_42 (dk_at dksX4_depth_0 0 rfl rfl)
theorem dX4_depth_1 : decode cX4_depth 1 = .ok (.iconst 0, 1) := dk_3 (dk_at dksX4_depth_0 1 rfl rfl)
theorem dX4_depth_2 : decode cX4_depth 2 = .ok (.putfield 3, 3) := dk_181 0 3 (dk_at dksX4_depth_0 2 rfl rfl)
theorem dX4_depth_5 : decode cX4_depth 5 = .ok (.aload_n 0, 1) := dk_42 (dk_at dksX4_depth_0 5 rfl rfl)
theorem dX4_depth_6 : decode cX4_depth 6 = .ok (.invokevirtual 355, 3) := dk_182 1 99 (dk_at dksX4_depth_0 6 rfl rfl)
theorem dX4_depth_9 : decode cX4_depth 9 = .ok (.aload_n 0, 1) := dk_42 (dk_at dksX4_depth_0 9 rfl rfl)
theorem dX4_depth_10 : decode cX4_depth 10 = .ok (.aload_n 0, 1) := dk_42 (dk_at dksX4_depth_0 10 rfl rfl)
theorem dX4_depth_11 : decode cX4_depth 11 = .ok (.getfield 146, 3) := dk_180 0 146 (dk_at dksX4_depth_0 11 rfl rfl)
theorem dX4_depth_14 : decode cX4_depth 14 = .ok (.iload_n 1, 1) := dk_27 (dk_at dksX4_depth_0 14 rfl rfl)
theorem dX4_depth_15 : decode cX4_depth 15 = .ok (.invokestatic 386, 3) := dk_184 1 130 (dk_at dksX4_depth_0 15 rfl rfl)
theorem dX4_depth_18 : decode cX4_depth 18 = .ok (.invokevirtual 362, 3) := dk_182 1 106 (dk_at dksX4_depth_0 18 rfl rfl)
theorem dX4_depth_21 : decode cX4_depth 21 = .ok (.ireturn, 1) := dk_172 (dk_at dksX4_depth_0 21 rfl rfl)
abbrev cX4_depthIs : ByteArray := prog_13_method_70_code
def yX4_depthIs : MethodName := ⟨RX4, "depthIs", "([II)I"⟩
def dkwX4_depthIs_1 : List UInt8 := [27, 79, 28, 27, 160, 0, 8, 16, 254, 167, 0, 7, 16, 10, 28, 96, 172]
abbrev dktX4_depthIs_1 : List UInt8 := dkwX4_depthIs_1 ++ []
def dkwX4_depthIs_0 : List UInt8 := [27, 133, 10, 20, 1, 12, 184, 0, 21, 154, 0, 5, 2, 172, 42, 17, 3, 58, 46, 61, 42, 17, 3, 58]
abbrev dktX4_depthIs_0 : List UInt8 := dkwX4_depthIs_0 ++ dktX4_depthIs_1
theorem dksX4_depthIs_0 : cX4_depthIs.data.toList.drop 0 = dktX4_depthIs_0 := by decide +kernel
theorem dksX4_depthIs_1 : cX4_depthIs.data.toList.drop 24 = dktX4_depthIs_1 := dk_seg dksX4_depthIs_0 24 rfl rfl
theorem dX4_depthIs_0 : decode cX4_depthIs 0 = .ok (.iload_n 1, 1) := dk_27 (dk_at dksX4_depthIs_0 0 rfl rfl)
theorem dX4_depthIs_1 : decode cX4_depthIs 1 = .ok (.i2l, 1) := dk_133 (dk_at dksX4_depthIs_0 1 rfl rfl)
theorem dX4_depthIs_2 : decode cX4_depthIs 2 = .ok (.lconst 1, 1) := dk_10 (dk_at dksX4_depthIs_0 2 rfl rfl)
theorem dX4_depthIs_3 : decode cX4_depthIs 3 = .ok (.ldc2_w 268, 3) := dk_20 1 12 (dk_at dksX4_depthIs_0 3 rfl rfl)
theorem dX4_depthIs_6 : decode cX4_depthIs 6 = .ok (.invokestatic 21, 3) := dk_184 0 21 (dk_at dksX4_depthIs_0 6 rfl rfl)
theorem dX4_depthIs_9 : decode cX4_depthIs 9 = .ok (.ifCond .ne 5, 3) := dk_154 0 5 (dk_at dksX4_depthIs_0 9 rfl rfl)
theorem dX4_depthIs_12 : decode cX4_depthIs 12 = .ok (.iconst (-1), 1) := dk_2 (dk_at dksX4_depthIs_0 12 rfl rfl)
theorem dX4_depthIs_13 : decode cX4_depthIs 13 = .ok (.ireturn, 1) := dk_172 (dk_at dksX4_depthIs_0 13 rfl rfl)
theorem dX4_depthIs_14 : decode cX4_depthIs 14 = .ok (.aload_n 0, 1) := dk_42 (dk_at dksX4_depthIs_0 14 rfl rfl)
theorem dX4_depthIs_15 : decode cX4_depthIs 15 = .ok (.sipush 826, 3) := dk_17 3 58 (dk_at dksX4_depthIs_0 15 rfl rfl)
theorem dX4_depthIs_18 : decode cX4_depthIs 18 = .ok (.iaload, 1) := dk_46 (dk_at dksX4_depthIs_0 18 rfl rfl)
theorem dX4_depthIs_19 : decode cX4_depthIs 19 = .ok (.istore_n 2, 1) := dk_61 (dk_at dksX4_depthIs_0 19 rfl rfl)
theorem dX4_depthIs_20 : decode cX4_depthIs 20 = .ok (.aload_n 0, 1) := dk_42 (dk_at dksX4_depthIs_0 20 rfl rfl)
theorem dX4_depthIs_21 : decode cX4_depthIs 21 = .ok (.sipush 826, 3) := dk_17 3 58 (dk_at dksX4_depthIs_0 21 rfl rfl)
theorem dX4_depthIs_24 : decode cX4_depthIs 24 = .ok (.iload_n 1, 1) := dk_27 (dk_at dksX4_depthIs_1 0 rfl rfl)
theorem dX4_depthIs_25 : decode cX4_depthIs 25 = .ok (.iastore, 1) := dk_79 (dk_at dksX4_depthIs_1 1 rfl rfl)
theorem dX4_depthIs_26 : decode cX4_depthIs 26 = .ok (.iload_n 2, 1) := dk_28 (dk_at dksX4_depthIs_1 2 rfl rfl)
theorem dX4_depthIs_27 : decode cX4_depthIs 27 = .ok (.iload_n 1, 1) := dk_27 (dk_at dksX4_depthIs_1 3 rfl rfl)
theorem dX4_depthIs_28 : decode cX4_depthIs 28 = .ok (.if_icmp .ne 8, 3) := dk_160 0 8 (dk_at dksX4_depthIs_1 4 rfl rfl)
theorem dX4_depthIs_31 : decode cX4_depthIs 31 = .ok (.bipush (-2), 2) := dk_16 254 (dk_at dksX4_depthIs_1 7 rfl rfl)
theorem dX4_depthIs_33 : decode cX4_depthIs 33 = .ok (.goto 7, 3) := dk_167 0 7 (dk_at dksX4_depthIs_1 9 rfl rfl)
theorem dX4_depthIs_36 : decode cX4_depthIs 36 = .ok (.bipush 10, 2) := dk_16 10 (dk_at dksX4_depthIs_1 12 rfl rfl)
theorem dX4_depthIs_38 : decode cX4_depthIs 38 = .ok (.iload_n 2, 1) := dk_28 (dk_at dksX4_depthIs_1 14 rfl rfl)
theorem dX4_depthIs_39 : decode cX4_depthIs 39 = .ok (.iadd, 1) := dk_96 (dk_at dksX4_depthIs_1 15 rfl rfl)
theorem dX4_depthIs_40 : decode cX4_depthIs 40 = .ok (.ireturn, 1) := dk_172 (dk_at dksX4_depthIs_1 16 rfl rfl)
abbrev cX4_day : ByteArray := prog_13_method_82_code
def yX4_day : MethodName := ⟨RX4, "day", "()I"⟩
def dkwX4_day_5 : List UInt8 := [182, 0, 233, 167, 0, 4, 3, 172]
abbrev dktX4_day_5 : List UInt8 := dkwX4_day_5 ++ []
def dkwX4_day_4 : List UInt8 := [182, 1, 89, 42, 42, 180, 0, 146, 17, 3, 59, 46, 133, 182, 1, 89, 27, 158, 0, 11, 42, 27]
abbrev dktX4_day_4 : List UInt8 := dkwX4_day_4 ++ dktX4_day_5
def dkwX4_day_3 : List UInt8 := [42, 3, 181, 0, 11, 42, 27, 42, 180, 1, 133, 162, 0, 7, 4, 167, 0, 4, 3, 184, 0, 40, 133]
abbrev dktX4_day_3 : List UInt8 := dkwX4_day_3 ++ dktX4_day_4
def dkwX4_day_2 : List UInt8 := [3, 60, 27, 42, 180, 1, 133, 162, 0, 17, 42, 27, 182, 1, 144, 155, 0, 9, 132, 1, 1, 167, 255, 237]
abbrev dktX4_day_2 : List UInt8 := dkwX4_day_2 ++ dktX4_day_3
def dkwX4_day_1 : List UInt8 := [180, 0, 37, 162, 0, 17, 42, 182, 1, 141, 154, 255, 241, 2, 42, 180, 0, 25, 100, 172, 42, 182, 1, 99]
abbrev dktX4_day_1 : List UInt8 := dkwX4_day_1 ++ dktX4_day_2
def dkwX4_day_0 : List UInt8 := [42, 3, 181, 0, 3, 42, 16, 80, 182, 0, 98, 87, 42, 3, 181, 1, 133, 42, 180, 0, 25, 42]
abbrev dktX4_day_0 : List UInt8 := dkwX4_day_0 ++ dktX4_day_1
theorem dksX4_day_0 : cX4_day.data.toList.drop 0 = dktX4_day_0 := by decide +kernel
theorem dksX4_day_1 : cX4_day.data.toList.drop 22 = dktX4_day_1 := dk_seg dksX4_day_0 22 rfl rfl
theorem dksX4_day_2 : cX4_day.data.toList.drop 46 = dktX4_day_2 := dk_seg dksX4_day_1 24 rfl rfl
theorem dksX4_day_3 : cX4_day.data.toList.drop 70 = dktX4_day_3 := dk_seg dksX4_day_2 24 rfl rfl
theorem dksX4_day_4 : cX4_day.data.toList.drop 93 = dktX4_day_4 := dk_seg dksX4_day_3 23 rfl rfl
theorem dksX4_day_5 : cX4_day.data.toList.drop 115 = dktX4_day_5 := dk_seg dksX4_day_4 22 rfl rfl
theorem dX4_day_0 : decode cX4_day 0 = .ok (.aload_n 0, 1) := dk_42 (dk_at dksX4_day_0 0 rfl rfl)
theorem dX4_day_1 : decode cX4_day 1 = .ok (.iconst 0, 1) := dk_3 (dk_at dksX4_day_0 1 rfl rfl)
theorem dX4_day_2 : decode cX4_day 2 = .ok (.putfield 3, 3) := dk_181 0 3 (dk_at dksX4_day_0 2 rfl rfl)
theorem dX4_day_5 : decode cX4_day 5 = .ok (.aload_n 0, 1) := dk_42 (dk_at dksX4_day_0 5 rfl rfl)
theorem dX4_day_6 : decode cX4_day 6 = .ok (.bipush 80, 2) := dk_16 80 (dk_at dksX4_day_0 6 rfl rfl)
theorem dX4_day_8 : decode cX4_day 8 = .ok (.invokevirtual 98, 3) := dk_182 0 98 (dk_at dksX4_day_0 8 rfl rfl)
theorem dX4_day_11 : decode cX4_day 11 = .ok (.pop, 1) := dk_87 (dk_at dksX4_day_0 11 rfl rfl)
theorem dX4_day_12 : decode cX4_day 12 = .ok (.aload_n 0, 1) := dk_42 (dk_at dksX4_day_0 12 rfl rfl)
theorem dX4_day_13 : decode cX4_day 13 = .ok (.iconst 0, 1) := dk_3 (dk_at dksX4_day_0 13 rfl rfl)
theorem dX4_day_14 : decode cX4_day 14 = .ok (.putfield 389, 3) := dk_181 1 133 (dk_at dksX4_day_0 14 rfl rfl)
theorem dX4_day_17 : decode cX4_day 17 = .ok (.aload_n 0, 1) := dk_42 (dk_at dksX4_day_0 17 rfl rfl)
theorem dX4_day_18 : decode cX4_day 18 = .ok (.getfield 25, 3) := dk_180 0 25 (dk_at dksX4_day_0 18 rfl rfl)
theorem dX4_day_21 : decode cX4_day 21 = .ok (.aload_n 0, 1) := dk_42 (dk_at dksX4_day_0 21 rfl rfl)
theorem dX4_day_22 : decode cX4_day 22 = .ok (.getfield 37, 3) := dk_180 0 37 (dk_at dksX4_day_1 0 rfl rfl)
theorem dX4_day_25 : decode cX4_day 25 = .ok (.if_icmp .ge 17, 3) := dk_162 0 17 (dk_at dksX4_day_1 3 rfl rfl)
theorem dX4_day_28 : decode cX4_day 28 = .ok (.aload_n 0, 1) := dk_42 (dk_at dksX4_day_1 6 rfl rfl)
theorem dX4_day_29 : decode cX4_day 29 = .ok (.invokevirtual 397, 3) := dk_182 1 141 (dk_at dksX4_day_1 7 rfl rfl)
theorem dX4_day_32 : decode cX4_day 32 = .ok (.ifCond .ne (-15), 3) := dk_154 255 241 (dk_at dksX4_day_1 10 rfl rfl)
theorem dX4_day_35 : decode cX4_day 35 = .ok (.iconst (-1), 1) := dk_2 (dk_at dksX4_day_1 13 rfl rfl)
theorem dX4_day_36 : decode cX4_day 36 = .ok (.aload_n 0, 1) := dk_42 (dk_at dksX4_day_1 14 rfl rfl)
theorem dX4_day_37 : decode cX4_day 37 = .ok (.getfield 25, 3) := dk_180 0 25 (dk_at dksX4_day_1 15 rfl rfl)
theorem dX4_day_40 : decode cX4_day 40 = .ok (.isub, 1) := dk_100 (dk_at dksX4_day_1 18 rfl rfl)
theorem dX4_day_41 : decode cX4_day 41 = .ok (.ireturn, 1) := dk_172 (dk_at dksX4_day_1 19 rfl rfl)
theorem dX4_day_42 : decode cX4_day 42 = .ok (.aload_n 0, 1) := dk_42 (dk_at dksX4_day_1 20 rfl rfl)
theorem dX4_day_43 : decode cX4_day 43 = .ok (.invokevirtual 355, 3) := dk_182 1 99 (dk_at dksX4_day_1 21 rfl rfl)
theorem dX4_day_46 : decode cX4_day 46 = .ok (.iconst 0, 1) := dk_3 (dk_at dksX4_day_2 0 rfl rfl)
theorem dX4_day_47 : decode cX4_day 47 = .ok (.istore_n 1, 1) := dk_60 (dk_at dksX4_day_2 1 rfl rfl)
theorem dX4_day_48 : decode cX4_day 48 = .ok (.iload_n 1, 1) := dk_27 (dk_at dksX4_day_2 2 rfl rfl)
theorem dX4_day_49 : decode cX4_day 49 = .ok (.aload_n 0, 1) := dk_42 (dk_at dksX4_day_2 3 rfl rfl)
theorem dX4_day_50 : decode cX4_day 50 = .ok (.getfield 389, 3) := dk_180 1 133 (dk_at dksX4_day_2 4 rfl rfl)
theorem dX4_day_53 : decode cX4_day 53 = .ok (.if_icmp .ge 17, 3) := dk_162 0 17 (dk_at dksX4_day_2 7 rfl rfl)
theorem dX4_day_56 : decode cX4_day 56 = .ok (.aload_n 0, 1) := dk_42 (dk_at dksX4_day_2 10 rfl rfl)
theorem dX4_day_57 : decode cX4_day 57 = .ok (.iload_n 1, 1) := dk_27 (dk_at dksX4_day_2 11 rfl rfl)
theorem dX4_day_58 : decode cX4_day 58 = .ok (.invokevirtual 400, 3) := dk_182 1 144 (dk_at dksX4_day_2 12 rfl rfl)
theorem dX4_day_61 : decode cX4_day 61 = .ok (.ifCond .lt 9, 3) := dk_155 0 9 (dk_at dksX4_day_2 15 rfl rfl)
theorem dX4_day_64 : decode cX4_day 64 = .ok (.iinc 1 1, 3) := dk_132 1 1 (dk_at dksX4_day_2 18 rfl rfl)
theorem dX4_day_67 : decode cX4_day 67 = .ok (.goto (-19), 3) := dk_167 255 237 (dk_at dksX4_day_2 21 rfl rfl)
theorem dX4_day_70 : decode cX4_day 70 = .ok (.aload_n 0, 1) := dk_42 (dk_at dksX4_day_3 0 rfl rfl)
theorem dX4_day_71 : decode cX4_day 71 = .ok (.iconst 0, 1) := dk_3 (dk_at dksX4_day_3 1 rfl rfl)
theorem dX4_day_72 : decode cX4_day 72 = .ok (.putfield 11, 3) := dk_181 0 11 (dk_at dksX4_day_3 2 rfl rfl)
theorem dX4_day_75 : decode cX4_day 75 = .ok (.aload_n 0, 1) := dk_42 (dk_at dksX4_day_3 5 rfl rfl)
theorem dX4_day_76 : decode cX4_day 76 = .ok (.iload_n 1, 1) := dk_27 (dk_at dksX4_day_3 6 rfl rfl)
theorem dX4_day_77 : decode cX4_day 77 = .ok (.aload_n 0, 1) := dk_42 (dk_at dksX4_day_3 7 rfl rfl)
theorem dX4_day_78 : decode cX4_day 78 = .ok (.getfield 389, 3) := dk_180 1 133 (dk_at dksX4_day_3 8 rfl rfl)
theorem dX4_day_81 : decode cX4_day 81 = .ok (.if_icmp .ge 7, 3) := dk_162 0 7 (dk_at dksX4_day_3 11 rfl rfl)
theorem dX4_day_84 : decode cX4_day 84 = .ok (.iconst 1, 1) := dk_4 (dk_at dksX4_day_3 14 rfl rfl)
theorem dX4_day_85 : decode cX4_day 85 = .ok (.goto 4, 3) := dk_167 0 4 (dk_at dksX4_day_3 15 rfl rfl)
theorem dX4_day_88 : decode cX4_day 88 = .ok (.iconst 0, 1) := dk_3 (dk_at dksX4_day_3 18 rfl rfl)
theorem dX4_day_89 : decode cX4_day 89 = .ok (.invokestatic 40, 3) := dk_184 0 40 (dk_at dksX4_day_3 19 rfl rfl)
theorem dX4_day_92 : decode cX4_day 92 = .ok (.i2l, 1) := dk_133 (dk_at dksX4_day_3 22 rfl rfl)
theorem dX4_day_93 : decode cX4_day 93 = .ok (.invokevirtual 345, 3) := dk_182 1 89 (dk_at dksX4_day_4 0 rfl rfl)
theorem dX4_day_96 : decode cX4_day 96 = .ok (.aload_n 0, 1) := dk_42 (dk_at dksX4_day_4 3 rfl rfl)
theorem dX4_day_97 : decode cX4_day 97 = .ok (.aload_n 0, 1) := dk_42 (dk_at dksX4_day_4 4 rfl rfl)
theorem dX4_day_98 : decode cX4_day 98 = .ok (.getfield 146, 3) := dk_180 0 146 (dk_at dksX4_day_4 5 rfl rfl)
theorem dX4_day_101 : decode cX4_day 101 = .ok (.sipush 827, 3) := dk_17 3 59 (dk_at dksX4_day_4 8 rfl rfl)
theorem dX4_day_104 : decode cX4_day 104 = .ok (.iaload, 1) := dk_46 (dk_at dksX4_day_4 11 rfl rfl)
theorem dX4_day_105 : decode cX4_day 105 = .ok (.i2l, 1) := dk_133 (dk_at dksX4_day_4 12 rfl rfl)
theorem dX4_day_106 : decode cX4_day 106 = .ok (.invokevirtual 345, 3) := dk_182 1 89 (dk_at dksX4_day_4 13 rfl rfl)
theorem dX4_day_109 : decode cX4_day 109 = .ok (.iload_n 1, 1) := dk_27 (dk_at dksX4_day_4 16 rfl rfl)
theorem dX4_day_110 : decode cX4_day 110 = .ok (.ifCond .le 11, 3) := dk_158 0 11 (dk_at dksX4_day_4 17 rfl rfl)
theorem dX4_day_113 : decode cX4_day 113 = .ok (.aload_n 0, 1) := dk_42 (dk_at dksX4_day_4 20 rfl rfl)
theorem dX4_day_114 : decode cX4_day 114 = .ok (.iload_n 1, 1) := dk_27 (dk_at dksX4_day_4 21 rfl rfl)
theorem dX4_day_115 : decode cX4_day 115 = .ok (.invokevirtual 233, 3) := dk_182 0 233 (dk_at dksX4_day_5 0 rfl rfl)
theorem dX4_day_118 : decode cX4_day 118 = .ok (.goto 4, 3) := dk_167 0 4 (dk_at dksX4_day_5 3 rfl rfl)
theorem dX4_day_121 : decode cX4_day 121 = .ok (.iconst 0, 1) := dk_3 (dk_at dksX4_day_5 6 rfl rfl)
theorem dX4_day_122 : decode cX4_day 122 = .ok (.ireturn, 1) := dk_172 (dk_at dksX4_day_5 7 rfl rfl)
abbrev cX4_readsAct : ByteArray := prog_13_method_80_code
def yX4_readsAct : MethodName := ⟨RX4, "readsAct", "()Z"⟩
def dkwX4_readsAct_8 : List UInt8 := [167, 0, 7, 42, 182, 1, 138, 79, 42, 180, 0, 167, 27, 46, 155, 0, 7, 4, 167, 0, 4, 3, 172]
abbrev dktX4_readsAct_8 : List UInt8 := dkwX4_readsAct_8 ++ []
def dkwX4_readsAct_7 : List UInt8 := [27, 42, 4, 182, 0, 62, 79, 42, 180, 0, 167, 27, 42, 180, 0, 164, 27, 46, 156, 0, 7, 2]
abbrev dktX4_readsAct_7 : List UInt8 := dkwX4_readsAct_7 ++ dktX4_readsAct_8
def dkwX4_readsAct_6 : List UInt8 := [46, 7, 160, 0, 18, 42, 180, 0, 161, 27, 46, 155, 0, 7, 4, 167, 0, 4, 3, 172, 42, 180, 0, 164]
abbrev dktX4_readsAct_6 : List UInt8 := dkwX4_readsAct_6 ++ dktX4_readsAct_7
def dkwX4_readsAct_5 : List UInt8 := [167, 0, 9, 42, 3, 7, 182, 0, 201, 79, 42, 180, 0, 161, 27, 46, 155, 0, 13, 42, 180, 0, 155, 27]
abbrev dktX4_readsAct_5 : List UInt8 := dkwX4_readsAct_5 ++ dktX4_readsAct_6
def dkwX4_readsAct_4 : List UInt8 := [167, 0, 4, 3, 172, 42, 180, 0, 161, 27, 42, 180, 0, 155, 27, 46, 7, 160, 0, 10, 42, 182, 1, 138]
abbrev dktX4_readsAct_4 : List UInt8 := dkwX4_readsAct_4 ++ dktX4_readsAct_5
def dkwX4_readsAct_3 : List UInt8 := [155, 0, 13, 42, 180, 0, 155, 27, 46, 7, 162, 0, 18, 42, 180, 0, 158, 27, 46, 155, 0, 7, 4]
abbrev dktX4_readsAct_3 : List UInt8 := dkwX4_readsAct_3 ++ dktX4_readsAct_4
def dkwX4_readsAct_2 : List UInt8 := [167, 0, 4, 3, 172, 42, 180, 0, 158, 27, 42, 4, 182, 0, 62, 79, 42, 180, 0, 158, 27, 46]
abbrev dktX4_readsAct_2 : List UInt8 := dkwX4_readsAct_2 ++ dktX4_readsAct_3
def dkwX4_readsAct_1 : List UInt8 := [96, 181, 1, 133, 42, 180, 0, 155, 27, 46, 157, 0, 18, 42, 180, 0, 155, 27, 46, 154, 0, 7, 4]
abbrev dktX4_readsAct_1 : List UInt8 := dkwX4_readsAct_1 ++ dktX4_readsAct_2
def dkwX4_readsAct_0 : List UInt8 := [42, 180, 1, 133, 60, 42, 180, 0, 155, 27, 42, 19, 1, 136, 182, 0, 85, 79, 42, 89, 180, 1, 133, 4]
abbrev dktX4_readsAct_0 : List UInt8 := dkwX4_readsAct_0 ++ dktX4_readsAct_1
theorem dksX4_readsAct_0 : cX4_readsAct.data.toList.drop 0 = dktX4_readsAct_0 := by decide +kernel
theorem dksX4_readsAct_1 : cX4_readsAct.data.toList.drop 24 = dktX4_readsAct_1 := dk_seg dksX4_readsAct_0 24 rfl rfl
theorem dksX4_readsAct_2 : cX4_readsAct.data.toList.drop 47 = dktX4_readsAct_2 := dk_seg dksX4_readsAct_1 23 rfl rfl
theorem dksX4_readsAct_3 : cX4_readsAct.data.toList.drop 69 = dktX4_readsAct_3 := dk_seg dksX4_readsAct_2 22 rfl rfl
theorem dksX4_readsAct_4 : cX4_readsAct.data.toList.drop 92 = dktX4_readsAct_4 := dk_seg dksX4_readsAct_3 23 rfl rfl
theorem dksX4_readsAct_5 : cX4_readsAct.data.toList.drop 116 = dktX4_readsAct_5 := dk_seg dksX4_readsAct_4 24 rfl rfl
theorem dksX4_readsAct_6 : cX4_readsAct.data.toList.drop 140 = dktX4_readsAct_6 := dk_seg dksX4_readsAct_5 24 rfl rfl
theorem dksX4_readsAct_7 : cX4_readsAct.data.toList.drop 164 = dktX4_readsAct_7 := dk_seg dksX4_readsAct_6 24 rfl rfl
theorem dksX4_readsAct_8 : cX4_readsAct.data.toList.drop 186 = dktX4_readsAct_8 := dk_seg dksX4_readsAct_7 22 rfl rfl
theorem dX4_readsAct_0 : decode cX4_readsAct 0 = .ok (.aload_n 0, 1) := dk_42 (dk_at dksX4_readsAct_0 0 rfl rfl)
theorem dX4_readsAct_1 : decode cX4_readsAct 1 = .ok (.getfield 389, 3) := dk_180 1 133 (dk_at dksX4_readsAct_0 1 rfl rfl)
theorem dX4_readsAct_4 : decode cX4_readsAct 4 = .ok (.istore_n 1, 1) := dk_60 (dk_at dksX4_readsAct_0 4 rfl rfl)
theorem dX4_readsAct_5 : decode cX4_readsAct 5 = .ok (.aload_n 0, 1) := dk_42 (dk_at dksX4_readsAct_0 5 rfl rfl)
theorem dX4_readsAct_6 : decode cX4_readsAct 6 = .ok (.getfield 155, 3) := dk_180 0 155 (dk_at dksX4_readsAct_0 6 rfl rfl)
theorem dX4_readsAct_9 : decode cX4_readsAct 9 = .ok (.iload_n 1, 1) := dk_27 (dk_at dksX4_readsAct_0 9 rfl rfl)
theorem dX4_readsAct_10 : decode cX4_readsAct 10 = .ok (.aload_n 0, 1) := dk_42 (dk_at dksX4_readsAct_0 10 rfl rfl)
theorem dX4_readsAct_11 : decode cX4_readsAct 11 = .ok (.ldc_w 392, 3) := dk_19 1 136 (dk_at dksX4_readsAct_0 11 rfl rfl)
theorem dX4_readsAct_14 : decode cX4_readsAct 14 = .ok (.invokevirtual 85, 3) := dk_182 0 85 (dk_at dksX4_readsAct_0 14 rfl rfl)
theorem dX4_readsAct_17 : decode cX4_readsAct 17 = .ok (.iastore, 1) := dk_79 (dk_at dksX4_readsAct_0 17 rfl rfl)
theorem dX4_readsAct_18 : decode cX4_readsAct 18 = .ok (.aload_n 0, 1) := dk_42 (dk_at dksX4_readsAct_0 18 rfl rfl)
theorem dX4_readsAct_19 : decode cX4_readsAct 19 = .ok (.dup, 1) := dk_89 (dk_at dksX4_readsAct_0 19 rfl rfl)
theorem dX4_readsAct_20 : decode cX4_readsAct 20 = .ok (.getfield 389, 3) := dk_180 1 133 (dk_at dksX4_readsAct_0 20 rfl rfl)
theorem dX4_readsAct_23 : decode cX4_readsAct 23 = .ok (.iconst 1, 1) := dk_4 (dk_at dksX4_readsAct_0 23 rfl rfl)
theorem dX4_readsAct_24 : decode cX4_readsAct 24 = .ok (.iadd, 1) := dk_96 (dk_at dksX4_readsAct_1 0 rfl rfl)
theorem dX4_readsAct_25 : decode cX4_readsAct 25 = .ok (.putfield 389, 3) := dk_181 1 133 (dk_at dksX4_readsAct_1 1 rfl rfl)
theorem dX4_readsAct_28 : decode cX4_readsAct 28 = .ok (.aload_n 0, 1) := dk_42 (dk_at dksX4_readsAct_1 4 rfl rfl)
theorem dX4_readsAct_29 : decode cX4_readsAct 29 = .ok (.getfield 155, 3) := dk_180 0 155 (dk_at dksX4_readsAct_1 5 rfl rfl)
theorem dX4_readsAct_32 : decode cX4_readsAct 32 = .ok (.iload_n 1, 1) := dk_27 (dk_at dksX4_readsAct_1 8 rfl rfl)
theorem dX4_readsAct_33 : decode cX4_readsAct 33 = .ok (.iaload, 1) := dk_46 (dk_at dksX4_readsAct_1 9 rfl rfl)
theorem dX4_readsAct_34 : decode cX4_readsAct 34 = .ok (.ifCond .gt 18, 3) := dk_157 0 18 (dk_at dksX4_readsAct_1 10 rfl rfl)
theorem dX4_readsAct_37 : decode cX4_readsAct 37 = .ok (.aload_n 0, 1) := dk_42 (dk_at dksX4_readsAct_1 13 rfl rfl)
theorem dX4_readsAct_38 : decode cX4_readsAct 38 = .ok (.getfield 155, 3) := dk_180 0 155 (dk_at dksX4_readsAct_1 14 rfl rfl)
theorem dX4_readsAct_41 : decode cX4_readsAct 41 = .ok (.iload_n 1, 1) := dk_27 (dk_at dksX4_readsAct_1 17 rfl rfl)
theorem dX4_readsAct_42 : decode cX4_readsAct 42 = .ok (.iaload, 1) := dk_46 (dk_at dksX4_readsAct_1 18 rfl rfl)
theorem dX4_readsAct_43 : decode cX4_readsAct 43 = .ok (.ifCond .ne 7, 3) := dk_154 0 7 (dk_at dksX4_readsAct_1 19 rfl rfl)
theorem dX4_readsAct_46 : decode cX4_readsAct 46 = .ok (.iconst 1, 1) := dk_4 (dk_at dksX4_readsAct_1 22 rfl rfl)
theorem dX4_readsAct_47 : decode cX4_readsAct 47 = .ok (.goto 4, 3) := dk_167 0 4 (dk_at dksX4_readsAct_2 0 rfl rfl)
theorem dX4_readsAct_50 : decode cX4_readsAct 50 = .ok (.iconst 0, 1) := dk_3 (dk_at dksX4_readsAct_2 3 rfl rfl)
theorem dX4_readsAct_51 : decode cX4_readsAct 51 = .ok (.ireturn, 1) := dk_172 (dk_at dksX4_readsAct_2 4 rfl rfl)
theorem dX4_readsAct_52 : decode cX4_readsAct 52 = .ok (.aload_n 0, 1) := dk_42 (dk_at dksX4_readsAct_2 5 rfl rfl)
theorem dX4_readsAct_53 : decode cX4_readsAct 53 = .ok (.getfield 158, 3) := dk_180 0 158 (dk_at dksX4_readsAct_2 6 rfl rfl)
theorem dX4_readsAct_56 : decode cX4_readsAct 56 = .ok (.iload_n 1, 1) := dk_27 (dk_at dksX4_readsAct_2 9 rfl rfl)
theorem dX4_readsAct_57 : decode cX4_readsAct 57 = .ok (.aload_n 0, 1) := dk_42 (dk_at dksX4_readsAct_2 10 rfl rfl)
theorem dX4_readsAct_58 : decode cX4_readsAct 58 = .ok (.iconst 1, 1) := dk_4 (dk_at dksX4_readsAct_2 11 rfl rfl)
theorem dX4_readsAct_59 : decode cX4_readsAct 59 = .ok (.invokevirtual 62, 3) := dk_182 0 62 (dk_at dksX4_readsAct_2 12 rfl rfl)
theorem dX4_readsAct_62 : decode cX4_readsAct 62 = .ok (.iastore, 1) := dk_79 (dk_at dksX4_readsAct_2 15 rfl rfl)
theorem dX4_readsAct_63 : decode cX4_readsAct 63 = .ok (.aload_n 0, 1) := dk_42 (dk_at dksX4_readsAct_2 16 rfl rfl)
theorem dX4_readsAct_64 : decode cX4_readsAct 64 = .ok (.getfield 158, 3) := dk_180 0 158 (dk_at dksX4_readsAct_2 17 rfl rfl)
theorem dX4_readsAct_67 : decode cX4_readsAct 67 = .ok (.iload_n 1, 1) := dk_27 (dk_at dksX4_readsAct_2 20 rfl rfl)
theorem dX4_readsAct_68 : decode cX4_readsAct 68 = .ok (.iaload, 1) := dk_46 (dk_at dksX4_readsAct_2 21 rfl rfl)
theorem dX4_readsAct_69 : decode cX4_readsAct 69 = .ok (.ifCond .lt 13, 3) := dk_155 0 13 (dk_at dksX4_readsAct_3 0 rfl rfl)
theorem dX4_readsAct_72 : decode cX4_readsAct 72 = .ok (.aload_n 0, 1) := dk_42 (dk_at dksX4_readsAct_3 3 rfl rfl)
theorem dX4_readsAct_73 : decode cX4_readsAct 73 = .ok (.getfield 155, 3) := dk_180 0 155 (dk_at dksX4_readsAct_3 4 rfl rfl)
theorem dX4_readsAct_76 : decode cX4_readsAct 76 = .ok (.iload_n 1, 1) := dk_27 (dk_at dksX4_readsAct_3 7 rfl rfl)
theorem dX4_readsAct_77 : decode cX4_readsAct 77 = .ok (.iaload, 1) := dk_46 (dk_at dksX4_readsAct_3 8 rfl rfl)
theorem dX4_readsAct_78 : decode cX4_readsAct 78 = .ok (.iconst 4, 1) := dk_7 (dk_at dksX4_readsAct_3 9 rfl rfl)
theorem dX4_readsAct_79 : decode cX4_readsAct 79 = .ok (.if_icmp .ge 18, 3) := dk_162 0 18 (dk_at dksX4_readsAct_3 10 rfl rfl)
theorem dX4_readsAct_82 : decode cX4_readsAct 82 = .ok (.aload_n 0, 1) := dk_42 (dk_at dksX4_readsAct_3 13 rfl rfl)
theorem dX4_readsAct_83 : decode cX4_readsAct 83 = .ok (.getfield 158, 3) := dk_180 0 158 (dk_at dksX4_readsAct_3 14 rfl rfl)
theorem dX4_readsAct_86 : decode cX4_readsAct 86 = .ok (.iload_n 1, 1) := dk_27 (dk_at dksX4_readsAct_3 17 rfl rfl)
theorem dX4_readsAct_87 : decode cX4_readsAct 87 = .ok (.iaload, 1) := dk_46 (dk_at dksX4_readsAct_3 18 rfl rfl)
theorem dX4_readsAct_88 : decode cX4_readsAct 88 = .ok (.ifCond .lt 7, 3) := dk_155 0 7 (dk_at dksX4_readsAct_3 19 rfl rfl)
theorem dX4_readsAct_91 : decode cX4_readsAct 91 = .ok (.iconst 1, 1) := dk_4 (dk_at dksX4_readsAct_3 22 rfl rfl)
theorem dX4_readsAct_92 : decode cX4_readsAct 92 = .ok (.goto 4, 3) := dk_167 0 4 (dk_at dksX4_readsAct_4 0 rfl rfl)
theorem dX4_readsAct_95 : decode cX4_readsAct 95 = .ok (.iconst 0, 1) := dk_3 (dk_at dksX4_readsAct_4 3 rfl rfl)
theorem dX4_readsAct_96 : decode cX4_readsAct 96 = .ok (.ireturn, 1) := dk_172 (dk_at dksX4_readsAct_4 4 rfl rfl)
theorem dX4_readsAct_97 : decode cX4_readsAct 97 = .ok (.aload_n 0, 1) := dk_42 (dk_at dksX4_readsAct_4 5 rfl rfl)
theorem dX4_readsAct_98 : decode cX4_readsAct 98 = .ok (.getfield 161, 3) := dk_180 0 161 (dk_at dksX4_readsAct_4 6 rfl rfl)
theorem dX4_readsAct_101 : decode cX4_readsAct 101 = .ok (.iload_n 1, 1) := dk_27 (dk_at dksX4_readsAct_4 9 rfl rfl)
theorem dX4_readsAct_102 : decode cX4_readsAct 102 = .ok (.aload_n 0, 1) := dk_42 (dk_at dksX4_readsAct_4 10 rfl rfl)
theorem dX4_readsAct_103 : decode cX4_readsAct 103 = .ok (.getfield 155, 3) := dk_180 0 155 (dk_at dksX4_readsAct_4 11 rfl rfl)
theorem dX4_readsAct_106 : decode cX4_readsAct 106 = .ok (.iload_n 1, 1) := dk_27 (dk_at dksX4_readsAct_4 14 rfl rfl)
theorem dX4_readsAct_107 : decode cX4_readsAct 107 = .ok (.iaload, 1) := dk_46 (dk_at dksX4_readsAct_4 15 rfl rfl)
theorem dX4_readsAct_108 : decode cX4_readsAct 108 = .ok (.iconst 4, 1) := dk_7 (dk_at dksX4_readsAct_4 16 rfl rfl)
theorem dX4_readsAct_109 : decode cX4_readsAct 109 = .ok (.if_icmp .ne 10, 3) := dk_160 0 10 (dk_at dksX4_readsAct_4 17 rfl rfl)
theorem dX4_readsAct_112 : decode cX4_readsAct 112 = .ok (.aload_n 0, 1) := dk_42 (dk_at dksX4_readsAct_4 20 rfl rfl)
theorem dX4_readsAct_113 : decode cX4_readsAct 113 = .ok (.invokevirtual 394, 3) := dk_182 1 138 (dk_at dksX4_readsAct_4 21 rfl rfl)
theorem dX4_readsAct_116 : decode cX4_readsAct 116 = .ok (.goto 9, 3) := dk_167 0 9 (dk_at dksX4_readsAct_5 0 rfl rfl)
theorem dX4_readsAct_119 : decode cX4_readsAct 119 = .ok (.aload_n 0, 1) := dk_42 (dk_at dksX4_readsAct_5 3 rfl rfl)
theorem dX4_readsAct_120 : decode cX4_readsAct 120 = .ok (.iconst 0, 1) := dk_3 (dk_at dksX4_readsAct_5 4 rfl rfl)
theorem dX4_readsAct_121 : decode cX4_readsAct 121 = .ok (.iconst 4, 1) := dk_7 (dk_at dksX4_readsAct_5 5 rfl rfl)
theorem dX4_readsAct_122 : decode cX4_readsAct 122 = .ok (.invokevirtual 201, 3) := dk_182 0 201 (dk_at dksX4_readsAct_5 6 rfl rfl)
theorem dX4_readsAct_125 : decode cX4_readsAct 125 = .ok (.iastore, 1) := dk_79 (dk_at dksX4_readsAct_5 9 rfl rfl)
theorem dX4_readsAct_126 : decode cX4_readsAct 126 = .ok (.aload_n 0, 1) := dk_42 (dk_at dksX4_readsAct_5 10 rfl rfl)
theorem dX4_readsAct_127 : decode cX4_readsAct 127 = .ok (.getfield 161, 3) := dk_180 0 161 (dk_at dksX4_readsAct_5 11 rfl rfl)
theorem dX4_readsAct_130 : decode cX4_readsAct 130 = .ok (.iload_n 1, 1) := dk_27 (dk_at dksX4_readsAct_5 14 rfl rfl)
theorem dX4_readsAct_131 : decode cX4_readsAct 131 = .ok (.iaload, 1) := dk_46 (dk_at dksX4_readsAct_5 15 rfl rfl)
theorem dX4_readsAct_132 : decode cX4_readsAct 132 = .ok (.ifCond .lt 13, 3) := dk_155 0 13 (dk_at dksX4_readsAct_5 16 rfl rfl)
theorem dX4_readsAct_135 : decode cX4_readsAct 135 = .ok (.aload_n 0, 1) := dk_42 (dk_at dksX4_readsAct_5 19 rfl rfl)
theorem dX4_readsAct_136 : decode cX4_readsAct 136 = .ok (.getfield 155, 3) := dk_180 0 155 (dk_at dksX4_readsAct_5 20 rfl rfl)
theorem dX4_readsAct_139 : decode cX4_readsAct 139 = .ok (.iload_n 1, 1) := dk_27 (dk_at dksX4_readsAct_5 23 rfl rfl)
theorem dX4_readsAct_140 : decode cX4_readsAct 140 = .ok (.iaload, 1) := dk_46 (dk_at dksX4_readsAct_6 0 rfl rfl)
theorem dX4_readsAct_141 : decode cX4_readsAct 141 = .ok (.iconst 4, 1) := dk_7 (dk_at dksX4_readsAct_6 1 rfl rfl)
theorem dX4_readsAct_142 : decode cX4_readsAct 142 = .ok (.if_icmp .ne 18, 3) := dk_160 0 18 (dk_at dksX4_readsAct_6 2 rfl rfl)
theorem dX4_readsAct_145 : decode cX4_readsAct 145 = .ok (.aload_n 0, 1) := dk_42 (dk_at dksX4_readsAct_6 5 rfl rfl)
theorem dX4_readsAct_146 : decode cX4_readsAct 146 = .ok (.getfield 161, 3) := dk_180 0 161 (dk_at dksX4_readsAct_6 6 rfl rfl)
theorem dX4_readsAct_149 : decode cX4_readsAct 149 = .ok (.iload_n 1, 1) := dk_27 (dk_at dksX4_readsAct_6 9 rfl rfl)
theorem dX4_readsAct_150 : decode cX4_readsAct 150 = .ok (.iaload, 1) := dk_46 (dk_at dksX4_readsAct_6 10 rfl rfl)
theorem dX4_readsAct_151 : decode cX4_readsAct 151 = .ok (.ifCond .lt 7, 3) := dk_155 0 7 (dk_at dksX4_readsAct_6 11 rfl rfl)
theorem dX4_readsAct_154 : decode cX4_readsAct 154 = .ok (.iconst 1, 1) := dk_4 (dk_at dksX4_readsAct_6 14 rfl rfl)
theorem dX4_readsAct_155 : decode cX4_readsAct 155 = .ok (.goto 4, 3) := dk_167 0 4 (dk_at dksX4_readsAct_6 15 rfl rfl)
theorem dX4_readsAct_158 : decode cX4_readsAct 158 = .ok (.iconst 0, 1) := dk_3 (dk_at dksX4_readsAct_6 18 rfl rfl)
theorem dX4_readsAct_159 : decode cX4_readsAct 159 = .ok (.ireturn, 1) := dk_172 (dk_at dksX4_readsAct_6 19 rfl rfl)
theorem dX4_readsAct_160 : decode cX4_readsAct 160 = .ok (.aload_n 0, 1) := dk_42 (dk_at dksX4_readsAct_6 20 rfl rfl)
theorem dX4_readsAct_161 : decode cX4_readsAct 161 = .ok (.getfield 164, 3) := dk_180 0 164 (dk_at dksX4_readsAct_6 21 rfl rfl)
theorem dX4_readsAct_164 : decode cX4_readsAct 164 = .ok (.iload_n 1, 1) := dk_27 (dk_at dksX4_readsAct_7 0 rfl rfl)
theorem dX4_readsAct_165 : decode cX4_readsAct 165 = .ok (.aload_n 0, 1) := dk_42 (dk_at dksX4_readsAct_7 1 rfl rfl)
theorem dX4_readsAct_166 : decode cX4_readsAct 166 = .ok (.iconst 1, 1) := dk_4 (dk_at dksX4_readsAct_7 2 rfl rfl)
theorem dX4_readsAct_167 : decode cX4_readsAct 167 = .ok (.invokevirtual 62, 3) := dk_182 0 62 (dk_at dksX4_readsAct_7 3 rfl rfl)
theorem dX4_readsAct_170 : decode cX4_readsAct 170 = .ok (.iastore, 1) := dk_79 (dk_at dksX4_readsAct_7 6 rfl rfl)
theorem dX4_readsAct_171 : decode cX4_readsAct 171 = .ok (.aload_n 0, 1) := dk_42 (dk_at dksX4_readsAct_7 7 rfl rfl)
theorem dX4_readsAct_172 : decode cX4_readsAct 172 = .ok (.getfield 167, 3) := dk_180 0 167 (dk_at dksX4_readsAct_7 8 rfl rfl)
theorem dX4_readsAct_175 : decode cX4_readsAct 175 = .ok (.iload_n 1, 1) := dk_27 (dk_at dksX4_readsAct_7 11 rfl rfl)
theorem dX4_readsAct_176 : decode cX4_readsAct 176 = .ok (.aload_n 0, 1) := dk_42 (dk_at dksX4_readsAct_7 12 rfl rfl)
theorem dX4_readsAct_177 : decode cX4_readsAct 177 = .ok (.getfield 164, 3) := dk_180 0 164 (dk_at dksX4_readsAct_7 13 rfl rfl)
theorem dX4_readsAct_180 : decode cX4_readsAct 180 = .ok (.iload_n 1, 1) := dk_27 (dk_at dksX4_readsAct_7 16 rfl rfl)
theorem dX4_readsAct_181 : decode cX4_readsAct 181 = .ok (.iaload, 1) := dk_46 (dk_at dksX4_readsAct_7 17 rfl rfl)
theorem dX4_readsAct_182 : decode cX4_readsAct 182 = .ok (.ifCond .ge 7, 3) := dk_156 0 7 (dk_at dksX4_readsAct_7 18 rfl rfl)
theorem dX4_readsAct_185 : decode cX4_readsAct 185 = .ok (.iconst (-1), 1) := dk_2 (dk_at dksX4_readsAct_7 21 rfl rfl)
theorem dX4_readsAct_186 : decode cX4_readsAct 186 = .ok (.goto 7, 3) := dk_167 0 7 (dk_at dksX4_readsAct_8 0 rfl rfl)
theorem dX4_readsAct_189 : decode cX4_readsAct 189 = .ok (.aload_n 0, 1) := dk_42 (dk_at dksX4_readsAct_8 3 rfl rfl)
theorem dX4_readsAct_190 : decode cX4_readsAct 190 = .ok (.invokevirtual 394, 3) := dk_182 1 138 (dk_at dksX4_readsAct_8 4 rfl rfl)
theorem dX4_readsAct_193 : decode cX4_readsAct 193 = .ok (.iastore, 1) := dk_79 (dk_at dksX4_readsAct_8 7 rfl rfl)
theorem dX4_readsAct_194 : decode cX4_readsAct 194 = .ok (.aload_n 0, 1) := dk_42 (dk_at dksX4_readsAct_8 8 rfl rfl)
theorem dX4_readsAct_195 : decode cX4_readsAct 195 = .ok (.getfield 167, 3) := dk_180 0 167 (dk_at dksX4_readsAct_8 9 rfl rfl)
theorem dX4_readsAct_198 : decode cX4_readsAct 198 = .ok (.iload_n 1, 1) := dk_27 (dk_at dksX4_readsAct_8 12 rfl rfl)
theorem dX4_readsAct_199 : decode cX4_readsAct 199 = .ok (.iaload, 1) := dk_46 (dk_at dksX4_readsAct_8 13 rfl rfl)
theorem dX4_readsAct_200 : decode cX4_readsAct 200 = .ok (.ifCond .lt 7, 3) := dk_155 0 7 (dk_at dksX4_readsAct_8 14 rfl rfl)
theorem dX4_readsAct_203 : decode cX4_readsAct 203 = .ok (.iconst 1, 1) := dk_4 (dk_at dksX4_readsAct_8 17 rfl rfl)
theorem dX4_readsAct_204 : decode cX4_readsAct 204 = .ok (.goto 4, 3) := dk_167 0 4 (dk_at dksX4_readsAct_8 18 rfl rfl)
theorem dX4_readsAct_207 : decode cX4_readsAct 207 = .ok (.iconst 0, 1) := dk_3 (dk_at dksX4_readsAct_8 21 rfl rfl)
theorem dX4_readsAct_208 : decode cX4_readsAct 208 = .ok (.ireturn, 1) := dk_172 (dk_at dksX4_readsAct_8 22 rfl rfl)
abbrev cX4_two : ByteArray := prog_13_method_13_code
def yX4_two : MethodName := ⟨RX4, "two", "()I"⟩
def dkwX4_two_1 : List UInt8 := [2, 167, 0, 9, 16, 10, 27, 104, 28, 96, 172]
abbrev dktX4_two_1 : List UInt8 := dkwX4_two_1 ++ []
def dkwX4_two_0 : List UInt8 := [42, 4, 182, 0, 62, 60, 27, 156, 0, 7, 2, 167, 0, 8, 42, 4, 182, 0, 62, 61, 28, 156, 0, 7]
abbrev dktX4_two_0 : List UInt8 := dkwX4_two_0 ++ dktX4_two_1
theorem dksX4_two_0 : cX4_two.data.toList.drop 0 = dktX4_two_0 := by decide +kernel
theorem dksX4_two_1 : cX4_two.data.toList.drop 24 = dktX4_two_1 := dk_seg dksX4_two_0 24 rfl rfl
theorem dX4_two_0 : decode cX4_two 0 = .ok (.aload_n 0, 1) := dk_42 (dk_at dksX4_two_0 0 rfl rfl)
theorem dX4_two_1 : decode cX4_two 1 = .ok (.iconst 1, 1) := dk_4 (dk_at dksX4_two_0 1 rfl rfl)
theorem dX4_two_2 : decode cX4_two 2 = .ok (.invokevirtual 62, 3) := dk_182 0 62 (dk_at dksX4_two_0 2 rfl rfl)
theorem dX4_two_5 : decode cX4_two 5 = .ok (.istore_n 1, 1) := dk_60 (dk_at dksX4_two_0 5 rfl rfl)
theorem dX4_two_6 : decode cX4_two 6 = .ok (.iload_n 1, 1) := dk_27 (dk_at dksX4_two_0 6 rfl rfl)
theorem dX4_two_7 : decode cX4_two 7 = .ok (.ifCond .ge 7, 3) := dk_156 0 7 (dk_at dksX4_two_0 7 rfl rfl)
theorem dX4_two_10 : decode cX4_two 10 = .ok (.iconst (-1), 1) := dk_2 (dk_at dksX4_two_0 10 rfl rfl)
theorem dX4_two_11 : decode cX4_two 11 = .ok (.goto 8, 3) := dk_167 0 8 (dk_at dksX4_two_0 11 rfl rfl)
theorem dX4_two_14 : decode cX4_two 14 = .ok (.aload_n 0, 1) := dk_42 (dk_at dksX4_two_0 14 rfl rfl)
theorem dX4_two_15 : decode cX4_two 15 = .ok (.iconst 1, 1) := dk_4 (dk_at dksX4_two_0 15 rfl rfl)
theorem dX4_two_16 : decode cX4_two 16 = .ok (.invokevirtual 62, 3) := dk_182 0 62 (dk_at dksX4_two_0 16 rfl rfl)
theorem dX4_two_19 : decode cX4_two 19 = .ok (.istore_n 2, 1) := dk_61 (dk_at dksX4_two_0 19 rfl rfl)
theorem dX4_two_20 : decode cX4_two 20 = .ok (.iload_n 2, 1) := dk_28 (dk_at dksX4_two_0 20 rfl rfl)
theorem dX4_two_21 : decode cX4_two 21 = .ok (.ifCond .ge 7, 3) := dk_156 0 7 (dk_at dksX4_two_0 21 rfl rfl)
theorem dX4_two_24 : decode cX4_two 24 = .ok (.iconst (-1), 1) := dk_2 (dk_at dksX4_two_1 0 rfl rfl)
theorem dX4_two_25 : decode cX4_two 25 = .ok (.goto 9, 3) := dk_167 0 9 (dk_at dksX4_two_1 1 rfl rfl)
theorem dX4_two_28 : decode cX4_two 28 = .ok (.bipush 10, 2) := dk_16 10 (dk_at dksX4_two_1 4 rfl rfl)
theorem dX4_two_30 : decode cX4_two 30 = .ok (.iload_n 1, 1) := dk_27 (dk_at dksX4_two_1 6 rfl rfl)
theorem dX4_two_31 : decode cX4_two 31 = .ok (.imul, 1) := dk_104 (dk_at dksX4_two_1 7 rfl rfl)
theorem dX4_two_32 : decode cX4_two 32 = .ok (.iload_n 2, 1) := dk_28 (dk_at dksX4_two_1 8 rfl rfl)
theorem dX4_two_33 : decode cX4_two 33 = .ok (.iadd, 1) := dk_96 (dk_at dksX4_two_1 9 rfl rfl)
theorem dX4_two_34 : decode cX4_two 34 = .ok (.ireturn, 1) := dk_172 (dk_at dksX4_two_1 10 rfl rfl)
abbrev cX4_does : ByteArray := prog_13_method_81_code
def yX4_does : MethodName := ⟨RX4, "does", "(I)I"⟩
def dkwX4_does_5 : List UInt8 := [180, 0, 164, 27, 46, 42, 180, 0, 167, 27, 46, 182, 1, 102, 172]
abbrev dktX4_does_5 : List UInt8 := dkwX4_does_5 ++ []
def dkwX4_does_4 : List UInt8 := [28, 42, 180, 0, 161, 27, 46, 182, 1, 120, 172, 42, 42, 180, 0, 146, 28, 42, 180, 0, 161, 27, 46, 42]
abbrev dktX4_does_4 : List UInt8 := dkwX4_does_4 ++ dktX4_does_5
def dkwX4_does_3 : List UInt8 := [180, 0, 146, 28, 182, 1, 114, 3, 172, 42, 42, 180, 0, 146, 28, 182, 1, 117, 172, 42, 42, 180, 0, 146]
abbrev dktX4_does_3 : List UInt8 := dkwX4_does_3 ++ dktX4_does_4
def dkwX4_does_2 : List UInt8 := [42, 42, 180, 0, 146, 3, 182, 1, 123, 172, 42, 42, 180, 0, 146, 28, 182, 1, 109, 172, 42, 42]
abbrev dktX4_does_2 : List UInt8 := dkwX4_does_2 ++ dktX4_does_3
def dkwX4_does_1 : List UInt8 := [170, 0, 0, 0, 0, 0, 92, 0, 0, 0, 0, 0, 0, 0, 4, 0, 0, 0, 35, 0, 0, 0, 45, 0, 0, 0, 55, 0, 0, 0, 66, 0, 0, 0, 76]
abbrev dktX4_does_1 : List UInt8 := dkwX4_does_1 ++ dktX4_does_2
def dkwX4_does_0 : List UInt8 := [42, 180, 0, 158, 27, 46, 61, 42, 180, 0, 155, 27, 46]
abbrev dktX4_does_0 : List UInt8 := dkwX4_does_0 ++ dktX4_does_1
theorem dksX4_does_0 : cX4_does.data.toList.drop 0 = dktX4_does_0 := by decide +kernel
theorem dksX4_does_1 : cX4_does.data.toList.drop 13 = dktX4_does_1 := dk_seg dksX4_does_0 13 rfl rfl
theorem dksX4_does_2 : cX4_does.data.toList.drop 48 = dktX4_does_2 := dk_seg dksX4_does_1 35 rfl rfl
theorem dksX4_does_3 : cX4_does.data.toList.drop 70 = dktX4_does_3 := dk_seg dksX4_does_2 22 rfl rfl
theorem dksX4_does_4 : cX4_does.data.toList.drop 94 = dktX4_does_4 := dk_seg dksX4_does_3 24 rfl rfl
theorem dksX4_does_5 : cX4_does.data.toList.drop 118 = dktX4_does_5 := dk_seg dksX4_does_4 24 rfl rfl
theorem dX4_does_0 : decode cX4_does 0 = .ok (.aload_n 0, 1) := dk_42 (dk_at dksX4_does_0 0 rfl rfl)
theorem dX4_does_1 : decode cX4_does 1 = .ok (.getfield 158, 3) := dk_180 0 158 (dk_at dksX4_does_0 1 rfl rfl)
theorem dX4_does_4 : decode cX4_does 4 = .ok (.iload_n 1, 1) := dk_27 (dk_at dksX4_does_0 4 rfl rfl)
theorem dX4_does_5 : decode cX4_does 5 = .ok (.iaload, 1) := dk_46 (dk_at dksX4_does_0 5 rfl rfl)
theorem dX4_does_6 : decode cX4_does 6 = .ok (.istore_n 2, 1) := dk_61 (dk_at dksX4_does_0 6 rfl rfl)
theorem dX4_does_7 : decode cX4_does 7 = .ok (.aload_n 0, 1) := dk_42 (dk_at dksX4_does_0 7 rfl rfl)
theorem dX4_does_8 : decode cX4_does 8 = .ok (.getfield 155, 3) := dk_180 0 155 (dk_at dksX4_does_0 8 rfl rfl)
theorem dX4_does_11 : decode cX4_does 11 = .ok (.iload_n 1, 1) := dk_27 (dk_at dksX4_does_0 11 rfl rfl)
theorem dX4_does_12 : decode cX4_does 12 = .ok (.iaload, 1) := dk_46 (dk_at dksX4_does_0 12 rfl rfl)
theorem dX4_does_13 : decode cX4_does 13 = .ok (.tableswitch 92 0 4 #[35, 45, 55, 66, 76], 35) := by decide +kernel
theorem dX4_does_48 : decode cX4_does 48 = .ok (.aload_n 0, 1) := dk_42 (dk_at dksX4_does_2 0 rfl rfl)
theorem dX4_does_49 : decode cX4_does 49 = .ok (.aload_n 0, 1) := dk_42 (dk_at dksX4_does_2 1 rfl rfl)
theorem dX4_does_50 : decode cX4_does 50 = .ok (.getfield 146, 3) := dk_180 0 146 (dk_at dksX4_does_2 2 rfl rfl)
theorem dX4_does_53 : decode cX4_does 53 = .ok (.iconst 0, 1) := dk_3 (dk_at dksX4_does_2 5 rfl rfl)
theorem dX4_does_54 : decode cX4_does 54 = .ok (.invokevirtual 379, 3) := dk_182 1 123 (dk_at dksX4_does_2 6 rfl rfl)
theorem dX4_does_57 : decode cX4_does 57 = .ok (.ireturn, 1) := dk_172 (dk_at dksX4_does_2 9 rfl rfl)
theorem dX4_does_58 : decode cX4_does 58 = .ok (.aload_n 0, 1) := dk_42 (dk_at dksX4_does_2 10 rfl rfl)
theorem dX4_does_59 : decode cX4_does 59 = .ok (.aload_n 0, 1) := dk_42 (dk_at dksX4_does_2 11 rfl rfl)
theorem dX4_does_60 : decode cX4_does 60 = .ok (.getfield 146, 3) := dk_180 0 146 (dk_at dksX4_does_2 12 rfl rfl)
theorem dX4_does_63 : decode cX4_does 63 = .ok (.iload_n 2, 1) := dk_28 (dk_at dksX4_does_2 15 rfl rfl)
theorem dX4_does_64 : decode cX4_does 64 = .ok (.invokevirtual 365, 3) := dk_182 1 109 (dk_at dksX4_does_2 16 rfl rfl)
theorem dX4_does_67 : decode cX4_does 67 = .ok (.ireturn, 1) := dk_172 (dk_at dksX4_does_2 19 rfl rfl)
theorem dX4_does_68 : decode cX4_does 68 = .ok (.aload_n 0, 1) := dk_42 (dk_at dksX4_does_2 20 rfl rfl)
theorem dX4_does_69 : decode cX4_does 69 = .ok (.aload_n 0, 1) := dk_42 (dk_at dksX4_does_2 21 rfl rfl)
theorem dX4_does_70 : decode cX4_does 70 = .ok (.getfield 146, 3) := dk_180 0 146 (dk_at dksX4_does_3 0 rfl rfl)
theorem dX4_does_73 : decode cX4_does 73 = .ok (.iload_n 2, 1) := dk_28 (dk_at dksX4_does_3 3 rfl rfl)
theorem dX4_does_74 : decode cX4_does 74 = .ok (.invokevirtual 370, 3) := dk_182 1 114 (dk_at dksX4_does_3 4 rfl rfl)
theorem dX4_does_77 : decode cX4_does 77 = .ok (.iconst 0, 1) := dk_3 (dk_at dksX4_does_3 7 rfl rfl)
theorem dX4_does_78 : decode cX4_does 78 = .ok (.ireturn, 1) := dk_172 (dk_at dksX4_does_3 8 rfl rfl)
theorem dX4_does_79 : decode cX4_does 79 = .ok (.aload_n 0, 1) := dk_42 (dk_at dksX4_does_3 9 rfl rfl)
theorem dX4_does_80 : decode cX4_does 80 = .ok (.aload_n 0, 1) := dk_42 (dk_at dksX4_does_3 10 rfl rfl)
theorem dX4_does_81 : decode cX4_does 81 = .ok (.getfield 146, 3) := dk_180 0 146 (dk_at dksX4_does_3 11 rfl rfl)
theorem dX4_does_84 : decode cX4_does 84 = .ok (.iload_n 2, 1) := dk_28 (dk_at dksX4_does_3 14 rfl rfl)
theorem dX4_does_85 : decode cX4_does 85 = .ok (.invokevirtual 373, 3) := dk_182 1 117 (dk_at dksX4_does_3 15 rfl rfl)
theorem dX4_does_88 : decode cX4_does 88 = .ok (.ireturn, 1) := dk_172 (dk_at dksX4_does_3 18 rfl rfl)
theorem dX4_does_89 : decode cX4_does 89 = .ok (.aload_n 0, 1) := dk_42 (dk_at dksX4_does_3 19 rfl rfl)
theorem dX4_does_90 : decode cX4_does 90 = .ok (.aload_n 0, 1) := dk_42 (dk_at dksX4_does_3 20 rfl rfl)
theorem dX4_does_91 : decode cX4_does 91 = .ok (.getfield 146, 3) := dk_180 0 146 (dk_at dksX4_does_3 21 rfl rfl)
theorem dX4_does_94 : decode cX4_does 94 = .ok (.iload_n 2, 1) := dk_28 (dk_at dksX4_does_4 0 rfl rfl)
theorem dX4_does_95 : decode cX4_does 95 = .ok (.aload_n 0, 1) := dk_42 (dk_at dksX4_does_4 1 rfl rfl)
theorem dX4_does_96 : decode cX4_does 96 = .ok (.getfield 161, 3) := dk_180 0 161 (dk_at dksX4_does_4 2 rfl rfl)
theorem dX4_does_99 : decode cX4_does 99 = .ok (.iload_n 1, 1) := dk_27 (dk_at dksX4_does_4 5 rfl rfl)
theorem dX4_does_100 : decode cX4_does 100 = .ok (.iaload, 1) := dk_46 (dk_at dksX4_does_4 6 rfl rfl)
theorem dX4_does_101 : decode cX4_does 101 = .ok (.invokevirtual 376, 3) := dk_182 1 120 (dk_at dksX4_does_4 7 rfl rfl)
theorem dX4_does_104 : decode cX4_does 104 = .ok (.ireturn, 1) := dk_172 (dk_at dksX4_does_4 10 rfl rfl)
theorem dX4_does_105 : decode cX4_does 105 = .ok (.aload_n 0, 1) := dk_42 (dk_at dksX4_does_4 11 rfl rfl)
theorem dX4_does_106 : decode cX4_does 106 = .ok (.aload_n 0, 1) := dk_42 (dk_at dksX4_does_4 12 rfl rfl)
theorem dX4_does_107 : decode cX4_does 107 = .ok (.getfield 146, 3) := dk_180 0 146 (dk_at dksX4_does_4 13 rfl rfl)
theorem dX4_does_110 : decode cX4_does 110 = .ok (.iload_n 2, 1) := dk_28 (dk_at dksX4_does_4 16 rfl rfl)
theorem dX4_does_111 : decode cX4_does 111 = .ok (.aload_n 0, 1) := dk_42 (dk_at dksX4_does_4 17 rfl rfl)
theorem dX4_does_112 : decode cX4_does 112 = .ok (.getfield 161, 3) := dk_180 0 161 (dk_at dksX4_does_4 18 rfl rfl)
theorem dX4_does_115 : decode cX4_does 115 = .ok (.iload_n 1, 1) := dk_27 (dk_at dksX4_does_4 21 rfl rfl)
theorem dX4_does_116 : decode cX4_does 116 = .ok (.iaload, 1) := dk_46 (dk_at dksX4_does_4 22 rfl rfl)
theorem dX4_does_117 : decode cX4_does 117 = .ok (.aload_n 0, 1) := dk_42 (dk_at dksX4_does_4 23 rfl rfl)
theorem dX4_does_118 : decode cX4_does 118 = .ok (.getfield 164, 3) := dk_180 0 164 (dk_at dksX4_does_5 0 rfl rfl)
theorem dX4_does_121 : decode cX4_does 121 = .ok (.iload_n 1, 1) := dk_27 (dk_at dksX4_does_5 3 rfl rfl)
theorem dX4_does_122 : decode cX4_does 122 = .ok (.iaload, 1) := dk_46 (dk_at dksX4_does_5 4 rfl rfl)
theorem dX4_does_123 : decode cX4_does 123 = .ok (.aload_n 0, 1) := dk_42 (dk_at dksX4_does_5 5 rfl rfl)
theorem dX4_does_124 : decode cX4_does 124 = .ok (.getfield 167, 3) := dk_180 0 167 (dk_at dksX4_does_5 6 rfl rfl)
theorem dX4_does_127 : decode cX4_does 127 = .ok (.iload_n 1, 1) := dk_27 (dk_at dksX4_does_5 9 rfl rfl)
theorem dX4_does_128 : decode cX4_does 128 = .ok (.iaload, 1) := dk_46 (dk_at dksX4_does_5 10 rfl rfl)
theorem dX4_does_129 : decode cX4_does 129 = .ok (.invokevirtual 358, 3) := dk_182 1 102 (dk_at dksX4_does_5 11 rfl rfl)
theorem dX4_does_132 : decode cX4_does 132 = .ok (.ireturn, 1) := dk_172 (dk_at dksX4_does_5 14 rfl rfl)
abbrev cX4_waiting : ByteArray := prog_13_method_83_code
def yX4_waiting : MethodName := ⟨RX4, "waiting", "(I)I"⟩
def dkwX4_waiting_3 : List UInt8 := [96, 133, 182, 1, 89, 132, 2, 1, 167, 255, 207, 42, 180, 0, 11, 172]
abbrev dktX4_waiting_3 : List UInt8 := dkwX4_waiting_3 ++ []
def dkwX4_waiting_2 : List UInt8 := [180, 0, 146, 27, 28, 184, 0, 239, 3, 96, 46, 104, 42, 180, 0, 146, 27, 28, 184, 0, 239, 4, 96, 46]
abbrev dktX4_waiting_2 : List UInt8 := dkwX4_waiting_2 ++ dktX4_waiting_3
def dkwX4_waiting_1 : List UInt8 := [27, 6, 184, 0, 220, 61, 28, 42, 180, 0, 146, 27, 3, 184, 0, 220, 162, 0, 42, 42, 16, 10, 42]
abbrev dktX4_waiting_1 : List UInt8 := dkwX4_waiting_1 ++ dktX4_waiting_2
def dkwX4_waiting_0 : List UInt8 := [42, 3, 181, 0, 3, 42, 27, 182, 0, 212, 154, 0, 5, 2, 172, 42, 3, 181, 0, 11, 42, 180, 0, 146]
abbrev dktX4_waiting_0 : List UInt8 := dkwX4_waiting_0 ++ dktX4_waiting_1
theorem dksX4_waiting_0 : cX4_waiting.data.toList.drop 0 = dktX4_waiting_0 := by decide +kernel
theorem dksX4_waiting_1 : cX4_waiting.data.toList.drop 24 = dktX4_waiting_1 := dk_seg dksX4_waiting_0 24 rfl rfl
theorem dksX4_waiting_2 : cX4_waiting.data.toList.drop 47 = dktX4_waiting_2 := dk_seg dksX4_waiting_1 23 rfl rfl
theorem dksX4_waiting_3 : cX4_waiting.data.toList.drop 71 = dktX4_waiting_3 := dk_seg dksX4_waiting_2 24 rfl rfl
theorem dX4_waiting_0 : decode cX4_waiting 0 = .ok (.aload_n 0, 1) := dk_42 (dk_at dksX4_waiting_0 0 rfl rfl)
theorem dX4_waiting_1 : decode cX4_waiting 1 = .ok (.iconst 0, 1) := dk_3 (dk_at dksX4_waiting_0 1 rfl rfl)
theorem dX4_waiting_2 : decode cX4_waiting 2 = .ok (.putfield 3, 3) := dk_181 0 3 (dk_at dksX4_waiting_0 2 rfl rfl)
theorem dX4_waiting_5 : decode cX4_waiting 5 = .ok (.aload_n 0, 1) := dk_42 (dk_at dksX4_waiting_0 5 rfl rfl)
theorem dX4_waiting_6 : decode cX4_waiting 6 = .ok (.iload_n 1, 1) := dk_27 (dk_at dksX4_waiting_0 6 rfl rfl)
theorem dX4_waiting_7 : decode cX4_waiting 7 = .ok (.invokevirtual 212, 3) := dk_182 0 212 (dk_at dksX4_waiting_0 7 rfl rfl)
theorem dX4_waiting_10 : decode cX4_waiting 10 = .ok (.ifCond .ne 5, 3) := dk_154 0 5 (dk_at dksX4_waiting_0 10 rfl rfl)
theorem dX4_waiting_13 : decode cX4_waiting 13 = .ok (.iconst (-1), 1) := dk_2 (dk_at dksX4_waiting_0 13 rfl rfl)
theorem dX4_waiting_14 : decode cX4_waiting 14 = .ok (.ireturn, 1) := dk_172 (dk_at dksX4_waiting_0 14 rfl rfl)
theorem dX4_waiting_15 : decode cX4_waiting 15 = .ok (.aload_n 0, 1) := dk_42 (dk_at dksX4_waiting_0 15 rfl rfl)
theorem dX4_waiting_16 : decode cX4_waiting 16 = .ok (.iconst 0, 1) := dk_3 (dk_at dksX4_waiting_0 16 rfl rfl)
theorem dX4_waiting_17 : decode cX4_waiting 17 = .ok (.putfield 11, 3) := dk_181 0 11 (dk_at dksX4_waiting_0 17 rfl rfl)
theorem dX4_waiting_20 : decode cX4_waiting 20 = .ok (.aload_n 0, 1) := dk_42 (dk_at dksX4_waiting_0 20 rfl rfl)
theorem dX4_waiting_21 : decode cX4_waiting 21 = .ok (.getfield 146, 3) := dk_180 0 146 (dk_at dksX4_waiting_0 21 rfl rfl)
theorem dX4_waiting_24 : decode cX4_waiting 24 = .ok (.iload_n 1, 1) := dk_27 (dk_at dksX4_waiting_1 0 rfl rfl)
theorem dX4_waiting_25 : decode cX4_waiting 25 = .ok (.iconst 3, 1) := dk_6 (dk_at dksX4_waiting_1 1 rfl rfl)
theorem dX4_waiting_26 : decode cX4_waiting 26 = .ok (.invokestatic 220, 3) := dk_184 0 220 (dk_at dksX4_waiting_1 2 rfl rfl)
theorem dX4_waiting_29 : decode cX4_waiting 29 = .ok (.istore_n 2, 1) := dk_61 (dk_at dksX4_waiting_1 5 rfl rfl)
theorem dX4_waiting_30 : decode cX4_waiting 30 = .ok (.iload_n 2, 1) := dk_28 (dk_at dksX4_waiting_1 6 rfl rfl)
theorem dX4_waiting_31 : decode cX4_waiting 31 = .ok (.aload_n 0, 1) := dk_42 (dk_at dksX4_waiting_1 7 rfl rfl)
theorem dX4_waiting_32 : decode cX4_waiting 32 = .ok (.getfield 146, 3) := dk_180 0 146 (dk_at dksX4_waiting_1 8 rfl rfl)
theorem dX4_waiting_35 : decode cX4_waiting 35 = .ok (.iload_n 1, 1) := dk_27 (dk_at dksX4_waiting_1 11 rfl rfl)
theorem dX4_waiting_36 : decode cX4_waiting 36 = .ok (.iconst 0, 1) := dk_3 (dk_at dksX4_waiting_1 12 rfl rfl)
theorem dX4_waiting_37 : decode cX4_waiting 37 = .ok (.invokestatic 220, 3) := dk_184 0 220 (dk_at dksX4_waiting_1 13 rfl rfl)
theorem dX4_waiting_40 : decode cX4_waiting 40 = .ok (.if_icmp .ge 42, 3) := dk_162 0 42 (dk_at dksX4_waiting_1 16 rfl rfl)
theorem dX4_waiting_43 : decode cX4_waiting 43 = .ok (.aload_n 0, 1) := dk_42 (dk_at dksX4_waiting_1 19 rfl rfl)
theorem dX4_waiting_44 : decode cX4_waiting 44 = .ok (.bipush 10, 2) := dk_16 10 (dk_at dksX4_waiting_1 20 rfl rfl)
theorem dX4_waiting_46 : decode cX4_waiting 46 = .ok (.aload_n 0, 1) := dk_42 (dk_at dksX4_waiting_1 22 rfl rfl)
theorem dX4_waiting_47 : decode cX4_waiting 47 = .ok (.getfield 146, 3) := dk_180 0 146 (dk_at dksX4_waiting_2 0 rfl rfl)
theorem dX4_waiting_50 : decode cX4_waiting 50 = .ok (.iload_n 1, 1) := dk_27 (dk_at dksX4_waiting_2 3 rfl rfl)
theorem dX4_waiting_51 : decode cX4_waiting 51 = .ok (.iload_n 2, 1) := dk_28 (dk_at dksX4_waiting_2 4 rfl rfl)
theorem dX4_waiting_52 : decode cX4_waiting 52 = .ok (.invokestatic 239, 3) := dk_184 0 239 (dk_at dksX4_waiting_2 5 rfl rfl)
theorem dX4_waiting_55 : decode cX4_waiting 55 = .ok (.iconst 0, 1) := dk_3 (dk_at dksX4_waiting_2 8 rfl rfl)
theorem dX4_waiting_56 : decode cX4_waiting 56 = .ok (.iadd, 1) := dk_96 (dk_at dksX4_waiting_2 9 rfl rfl)
theorem dX4_waiting_57 : decode cX4_waiting 57 = .ok (.iaload, 1) := dk_46 (dk_at dksX4_waiting_2 10 rfl rfl)
theorem dX4_waiting_58 : decode cX4_waiting 58 = .ok (.imul, 1) := dk_104 (dk_at dksX4_waiting_2 11 rfl rfl)
theorem dX4_waiting_59 : decode cX4_waiting 59 = .ok (.aload_n 0, 1) := dk_42 (dk_at dksX4_waiting_2 12 rfl rfl)
theorem dX4_waiting_60 : decode cX4_waiting 60 = .ok (.getfield 146, 3) := dk_180 0 146 (dk_at dksX4_waiting_2 13 rfl rfl)
theorem dX4_waiting_63 : decode cX4_waiting 63 = .ok (.iload_n 1, 1) := dk_27 (dk_at dksX4_waiting_2 16 rfl rfl)
theorem dX4_waiting_64 : decode cX4_waiting 64 = .ok (.iload_n 2, 1) := dk_28 (dk_at dksX4_waiting_2 17 rfl rfl)
theorem dX4_waiting_65 : decode cX4_waiting 65 = .ok (.invokestatic 239, 3) := dk_184 0 239 (dk_at dksX4_waiting_2 18 rfl rfl)
theorem dX4_waiting_68 : decode cX4_waiting 68 = .ok (.iconst 1, 1) := dk_4 (dk_at dksX4_waiting_2 21 rfl rfl)
theorem dX4_waiting_69 : decode cX4_waiting 69 = .ok (.iadd, 1) := dk_96 (dk_at dksX4_waiting_2 22 rfl rfl)
theorem dX4_waiting_70 : decode cX4_waiting 70 = .ok (.iaload, 1) := dk_46 (dk_at dksX4_waiting_2 23 rfl rfl)
theorem dX4_waiting_71 : decode cX4_waiting 71 = .ok (.iadd, 1) := dk_96 (dk_at dksX4_waiting_3 0 rfl rfl)
theorem dX4_waiting_72 : decode cX4_waiting 72 = .ok (.i2l, 1) := dk_133 (dk_at dksX4_waiting_3 1 rfl rfl)
theorem dX4_waiting_73 : decode cX4_waiting 73 = .ok (.invokevirtual 345, 3) := dk_182 1 89 (dk_at dksX4_waiting_3 2 rfl rfl)
theorem dX4_waiting_76 : decode cX4_waiting 76 = .ok (.iinc 2 1, 3) := dk_132 2 1 (dk_at dksX4_waiting_3 5 rfl rfl)
theorem dX4_waiting_79 : decode cX4_waiting 79 = .ok (.goto (-49), 3) := dk_167 255 207 (dk_at dksX4_waiting_3 8 rfl rfl)
theorem dX4_waiting_82 : decode cX4_waiting 82 = .ok (.aload_n 0, 1) := dk_42 (dk_at dksX4_waiting_3 11 rfl rfl)
theorem dX4_waiting_83 : decode cX4_waiting 83 = .ok (.getfield 11, 3) := dk_180 0 11 (dk_at dksX4_waiting_3 12 rfl rfl)
theorem dX4_waiting_86 : decode cX4_waiting 86 = .ok (.ireturn, 1) := dk_172 (dk_at dksX4_waiting_3 15 rfl rfl)
abbrev cX4_running : ByteArray := prog_13_method_84_code
def yX4_running : MethodName := ⟨RX4, "running", "()I"⟩
def dkwX4_running_3 : List UInt8 := [132, 1, 1, 167, 255, 195, 42, 180, 0, 11, 172]
abbrev dktX4_running_3 : List UInt8 := dkwX4_running_3 ++ []
def dkwX4_running_2 : List UInt8 := [28, 4, 96, 3, 96, 46, 104, 96, 42, 180, 0, 146, 28, 16, 11, 96, 46, 96, 133, 182, 1, 89]
abbrev dktX4_running_2 : List UInt8 := dkwX4_running_2 ++ dktX4_running_3
def dkwX4_running_1 : List UInt8 := [27, 184, 0, 236, 61, 42, 17, 3, 232, 42, 180, 0, 146, 28, 3, 96, 46, 104, 16, 10, 42, 180, 0, 146]
abbrev dktX4_running_1 : List UInt8 := dkwX4_running_1 ++ dktX4_running_2
def dkwX4_running_0 : List UInt8 := [42, 3, 181, 0, 3, 42, 3, 181, 0, 11, 3, 60, 27, 42, 180, 0, 146, 17, 1, 237, 46, 162, 0, 55]
abbrev dktX4_running_0 : List UInt8 := dkwX4_running_0 ++ dktX4_running_1
theorem dksX4_running_0 : cX4_running.data.toList.drop 0 = dktX4_running_0 := by decide +kernel
theorem dksX4_running_1 : cX4_running.data.toList.drop 24 = dktX4_running_1 := dk_seg dksX4_running_0 24 rfl rfl
theorem dksX4_running_2 : cX4_running.data.toList.drop 48 = dktX4_running_2 := dk_seg dksX4_running_1 24 rfl rfl
theorem dksX4_running_3 : cX4_running.data.toList.drop 70 = dktX4_running_3 := dk_seg dksX4_running_2 22 rfl rfl
theorem dX4_running_0 : decode cX4_running 0 = .ok (.aload_n 0, 1) := dk_42 (dk_at dksX4_running_0 0 rfl rfl)
theorem dX4_running_1 : decode cX4_running 1 = .ok (.iconst 0, 1) := dk_3 (dk_at dksX4_running_0 1 rfl rfl)
theorem dX4_running_2 : decode cX4_running 2 = .ok (.putfield 3, 3) := dk_181 0 3 (dk_at dksX4_running_0 2 rfl rfl)
theorem dX4_running_5 : decode cX4_running 5 = .ok (.aload_n 0, 1) := dk_42 (dk_at dksX4_running_0 5 rfl rfl)
theorem dX4_running_6 : decode cX4_running 6 = .ok (.iconst 0, 1) := dk_3 (dk_at dksX4_running_0 6 rfl rfl)
theorem dX4_running_7 : decode cX4_running 7 = .ok (.putfield 11, 3) := dk_181 0 11 (dk_at dksX4_running_0 7 rfl rfl)
theorem dX4_running_10 : decode cX4_running 10 = .ok (.iconst 0, 1) := dk_3 (dk_at dksX4_running_0 10 rfl rfl)
theorem dX4_running_11 : decode cX4_running 11 = .ok (.istore_n 1, 1) := dk_60 (dk_at dksX4_running_0 11 rfl rfl)
theorem dX4_running_12 : decode cX4_running 12 = .ok (.iload_n 1, 1) := dk_27 (dk_at dksX4_running_0 12 rfl rfl)
theorem dX4_running_13 : decode cX4_running 13 = .ok (.aload_n 0, 1) := dk_42 (dk_at dksX4_running_0 13 rfl rfl)
theorem dX4_running_14 : decode cX4_running 14 = .ok (.getfield 146, 3) := dk_180 0 146 (dk_at dksX4_running_0 14 rfl rfl)
theorem dX4_running_17 : decode cX4_running 17 = .ok (.sipush 493, 3) := dk_17 1 237 (dk_at dksX4_running_0 17 rfl rfl)
theorem dX4_running_20 : decode cX4_running 20 = .ok (.iaload, 1) := dk_46 (dk_at dksX4_running_0 20 rfl rfl)
theorem dX4_running_21 : decode cX4_running 21 = .ok (.if_icmp .ge 55, 3) := dk_162 0 55 (dk_at dksX4_running_0 21 rfl rfl)
theorem dX4_running_24 : decode cX4_running 24 = .ok (.iload_n 1, 1) := dk_27 (dk_at dksX4_running_1 0 rfl rfl)
theorem dX4_running_25 : decode cX4_running 25 = .ok (.invokestatic 236, 3) := dk_184 0 236 (dk_at dksX4_running_1 1 rfl rfl)
theorem dX4_running_28 : decode cX4_running 28 = .ok (.istore_n 2, 1) := dk_61 (dk_at dksX4_running_1 4 rfl rfl)
theorem dX4_running_29 : decode cX4_running 29 = .ok (.aload_n 0, 1) := dk_42 (dk_at dksX4_running_1 5 rfl rfl)
theorem dX4_running_30 : decode cX4_running 30 = .ok (.sipush 1000, 3) := dk_17 3 232 (dk_at dksX4_running_1 6 rfl rfl)
theorem dX4_running_33 : decode cX4_running 33 = .ok (.aload_n 0, 1) := dk_42 (dk_at dksX4_running_1 9 rfl rfl)
theorem dX4_running_34 : decode cX4_running 34 = .ok (.getfield 146, 3) := dk_180 0 146 (dk_at dksX4_running_1 10 rfl rfl)
theorem dX4_running_37 : decode cX4_running 37 = .ok (.iload_n 2, 1) := dk_28 (dk_at dksX4_running_1 13 rfl rfl)
theorem dX4_running_38 : decode cX4_running 38 = .ok (.iconst 0, 1) := dk_3 (dk_at dksX4_running_1 14 rfl rfl)
theorem dX4_running_39 : decode cX4_running 39 = .ok (.iadd, 1) := dk_96 (dk_at dksX4_running_1 15 rfl rfl)
theorem dX4_running_40 : decode cX4_running 40 = .ok (.iaload, 1) := dk_46 (dk_at dksX4_running_1 16 rfl rfl)
theorem dX4_running_41 : decode cX4_running 41 = .ok (.imul, 1) := dk_104 (dk_at dksX4_running_1 17 rfl rfl)
theorem dX4_running_42 : decode cX4_running 42 = .ok (.bipush 10, 2) := dk_16 10 (dk_at dksX4_running_1 18 rfl rfl)
theorem dX4_running_44 : decode cX4_running 44 = .ok (.aload_n 0, 1) := dk_42 (dk_at dksX4_running_1 20 rfl rfl)
theorem dX4_running_45 : decode cX4_running 45 = .ok (.getfield 146, 3) := dk_180 0 146 (dk_at dksX4_running_1 21 rfl rfl)
theorem dX4_running_48 : decode cX4_running 48 = .ok (.iload_n 2, 1) := dk_28 (dk_at dksX4_running_2 0 rfl rfl)
theorem dX4_running_49 : decode cX4_running 49 = .ok (.iconst 1, 1) := dk_4 (dk_at dksX4_running_2 1 rfl rfl)
theorem dX4_running_50 : decode cX4_running 50 = .ok (.iadd, 1) := dk_96 (dk_at dksX4_running_2 2 rfl rfl)
theorem dX4_running_51 : decode cX4_running 51 = .ok (.iconst 0, 1) := dk_3 (dk_at dksX4_running_2 3 rfl rfl)
theorem dX4_running_52 : decode cX4_running 52 = .ok (.iadd, 1) := dk_96 (dk_at dksX4_running_2 4 rfl rfl)
theorem dX4_running_53 : decode cX4_running 53 = .ok (.iaload, 1) := dk_46 (dk_at dksX4_running_2 5 rfl rfl)
theorem dX4_running_54 : decode cX4_running 54 = .ok (.imul, 1) := dk_104 (dk_at dksX4_running_2 6 rfl rfl)
theorem dX4_running_55 : decode cX4_running 55 = .ok (.iadd, 1) := dk_96 (dk_at dksX4_running_2 7 rfl rfl)
theorem dX4_running_56 : decode cX4_running 56 = .ok (.aload_n 0, 1) := dk_42 (dk_at dksX4_running_2 8 rfl rfl)
theorem dX4_running_57 : decode cX4_running 57 = .ok (.getfield 146, 3) := dk_180 0 146 (dk_at dksX4_running_2 9 rfl rfl)
theorem dX4_running_60 : decode cX4_running 60 = .ok (.iload_n 2, 1) := dk_28 (dk_at dksX4_running_2 12 rfl rfl)
theorem dX4_running_61 : decode cX4_running 61 = .ok (.bipush 11, 2) := dk_16 11 (dk_at dksX4_running_2 13 rfl rfl)
theorem dX4_running_63 : decode cX4_running 63 = .ok (.iadd, 1) := dk_96 (dk_at dksX4_running_2 15 rfl rfl)
theorem dX4_running_64 : decode cX4_running 64 = .ok (.iaload, 1) := dk_46 (dk_at dksX4_running_2 16 rfl rfl)
theorem dX4_running_65 : decode cX4_running 65 = .ok (.iadd, 1) := dk_96 (dk_at dksX4_running_2 17 rfl rfl)
theorem dX4_running_66 : decode cX4_running 66 = .ok (.i2l, 1) := dk_133 (dk_at dksX4_running_2 18 rfl rfl)
theorem dX4_running_67 : decode cX4_running 67 = .ok (.invokevirtual 345, 3) := dk_182 1 89 (dk_at dksX4_running_2 19 rfl rfl)
theorem dX4_running_70 : decode cX4_running 70 = .ok (.iinc 1 1, 3) := dk_132 1 1 (dk_at dksX4_running_3 0 rfl rfl)
theorem dX4_running_73 : decode cX4_running 73 = .ok (.goto (-61), 3) := dk_167 255 195 (dk_at dksX4_running_3 3 rfl rfl)
theorem dX4_running_76 : decode cX4_running 76 = .ok (.aload_n 0, 1) := dk_42 (dk_at dksX4_running_3 6 rfl rfl)
theorem dX4_running_77 : decode cX4_running 77 = .ok (.getfield 11, 3) := dk_180 0 11 (dk_at dksX4_running_3 7 rfl rfl)
theorem dX4_running_80 : decode cX4_running 80 = .ok (.ireturn, 1) := dk_172 (dk_at dksX4_running_3 10 rfl rfl)
abbrev cX4_outbox : ByteArray := prog_13_method_85_code
def yX4_outbox : MethodName := ⟨RX4, "outbox", "()I"⟩
def dkwX4_outbox_3 : List UInt8 := [182, 1, 89, 132, 1, 1, 167, 255, 192, 42, 180, 0, 146, 17, 3, 46, 46, 172]
abbrev dktX4_outbox_3 : List UInt8 := dkwX4_outbox_3 ++ []
def dkwX4_outbox_2 : List UInt8 := [16, 10, 42, 180, 0, 146, 28, 4, 96, 46, 104, 96, 42, 180, 0, 146, 28, 5, 96, 46, 96, 133]
abbrev dktX4_outbox_2 : List UInt8 := dkwX4_outbox_2 ++ dktX4_outbox_3
def dkwX4_outbox_1 : List UInt8 := [27, 16, 12, 162, 0, 52, 27, 184, 0, 246, 61, 42, 17, 3, 232, 42, 180, 0, 146, 28, 3, 96, 46, 104]
abbrev dktX4_outbox_1 : List UInt8 := dkwX4_outbox_1 ++ dktX4_outbox_2
def dkwX4_outbox_0 : List UInt8 := [42, 3, 181, 0, 3, 42, 3, 181, 0, 11, 3, 60, 27, 42, 180, 0, 146, 17, 3, 46, 46, 162, 0, 58]
abbrev dktX4_outbox_0 : List UInt8 := dkwX4_outbox_0 ++ dktX4_outbox_1
theorem dksX4_outbox_0 : cX4_outbox.data.toList.drop 0 = dktX4_outbox_0 := by decide +kernel
theorem dksX4_outbox_1 : cX4_outbox.data.toList.drop 24 = dktX4_outbox_1 := dk_seg dksX4_outbox_0 24 rfl rfl
theorem dksX4_outbox_2 : cX4_outbox.data.toList.drop 48 = dktX4_outbox_2 := dk_seg dksX4_outbox_1 24 rfl rfl
theorem dksX4_outbox_3 : cX4_outbox.data.toList.drop 70 = dktX4_outbox_3 := dk_seg dksX4_outbox_2 22 rfl rfl
theorem dX4_outbox_0 : decode cX4_outbox 0 = .ok (.aload_n 0, 1) := dk_42 (dk_at dksX4_outbox_0 0 rfl rfl)
theorem dX4_outbox_1 : decode cX4_outbox 1 = .ok (.iconst 0, 1) := dk_3 (dk_at dksX4_outbox_0 1 rfl rfl)
theorem dX4_outbox_2 : decode cX4_outbox 2 = .ok (.putfield 3, 3) := dk_181 0 3 (dk_at dksX4_outbox_0 2 rfl rfl)
theorem dX4_outbox_5 : decode cX4_outbox 5 = .ok (.aload_n 0, 1) := dk_42 (dk_at dksX4_outbox_0 5 rfl rfl)
theorem dX4_outbox_6 : decode cX4_outbox 6 = .ok (.iconst 0, 1) := dk_3 (dk_at dksX4_outbox_0 6 rfl rfl)
theorem dX4_outbox_7 : decode cX4_outbox 7 = .ok (.putfield 11, 3) := dk_181 0 11 (dk_at dksX4_outbox_0 7 rfl rfl)
theorem dX4_outbox_10 : decode cX4_outbox 10 = .ok (.iconst 0, 1) := dk_3 (dk_at dksX4_outbox_0 10 rfl rfl)
theorem dX4_outbox_11 : decode cX4_outbox 11 = .ok (.istore_n 1, 1) := dk_60 (dk_at dksX4_outbox_0 11 rfl rfl)
theorem dX4_outbox_12 : decode cX4_outbox 12 = .ok (.iload_n 1, 1) := dk_27 (dk_at dksX4_outbox_0 12 rfl rfl)
theorem dX4_outbox_13 : decode cX4_outbox 13 = .ok (.aload_n 0, 1) := dk_42 (dk_at dksX4_outbox_0 13 rfl rfl)
theorem dX4_outbox_14 : decode cX4_outbox 14 = .ok (.getfield 146, 3) := dk_180 0 146 (dk_at dksX4_outbox_0 14 rfl rfl)
theorem dX4_outbox_17 : decode cX4_outbox 17 = .ok (.sipush 814, 3) := dk_17 3 46 (dk_at dksX4_outbox_0 17 rfl rfl)
theorem dX4_outbox_20 : decode cX4_outbox 20 = .ok (.iaload, 1) := dk_46 (dk_at dksX4_outbox_0 20 rfl rfl)
theorem dX4_outbox_21 : decode cX4_outbox 21 = .ok (.if_icmp .ge 58, 3) := dk_162 0 58 (dk_at dksX4_outbox_0 21 rfl rfl)
theorem dX4_outbox_24 : decode cX4_outbox 24 = .ok (.iload_n 1, 1) := dk_27 (dk_at dksX4_outbox_1 0 rfl rfl)
theorem dX4_outbox_25 : decode cX4_outbox 25 = .ok (.bipush 12, 2) := dk_16 12 (dk_at dksX4_outbox_1 1 rfl rfl)
theorem dX4_outbox_27 : decode cX4_outbox 27 = .ok (.if_icmp .ge 52, 3) := dk_162 0 52 (dk_at dksX4_outbox_1 3 rfl rfl)
theorem dX4_outbox_30 : decode cX4_outbox 30 = .ok (.iload_n 1, 1) := dk_27 (dk_at dksX4_outbox_1 6 rfl rfl)
theorem dX4_outbox_31 : decode cX4_outbox 31 = .ok (.invokestatic 246, 3) := dk_184 0 246 (dk_at dksX4_outbox_1 7 rfl rfl)
theorem dX4_outbox_34 : decode cX4_outbox 34 = .ok (.istore_n 2, 1) := dk_61 (dk_at dksX4_outbox_1 10 rfl rfl)
theorem dX4_outbox_35 : decode cX4_outbox 35 = .ok (.aload_n 0, 1) := dk_42 (dk_at dksX4_outbox_1 11 rfl rfl)
theorem dX4_outbox_36 : decode cX4_outbox 36 = .ok (.sipush 1000, 3) := dk_17 3 232 (dk_at dksX4_outbox_1 12 rfl rfl)
theorem dX4_outbox_39 : decode cX4_outbox 39 = .ok (.aload_n 0, 1) := dk_42 (dk_at dksX4_outbox_1 15 rfl rfl)
theorem dX4_outbox_40 : decode cX4_outbox 40 = .ok (.getfield 146, 3) := dk_180 0 146 (dk_at dksX4_outbox_1 16 rfl rfl)
theorem dX4_outbox_43 : decode cX4_outbox 43 = .ok (.iload_n 2, 1) := dk_28 (dk_at dksX4_outbox_1 19 rfl rfl)
theorem dX4_outbox_44 : decode cX4_outbox 44 = .ok (.iconst 0, 1) := dk_3 (dk_at dksX4_outbox_1 20 rfl rfl)
theorem dX4_outbox_45 : decode cX4_outbox 45 = .ok (.iadd, 1) := dk_96 (dk_at dksX4_outbox_1 21 rfl rfl)
theorem dX4_outbox_46 : decode cX4_outbox 46 = .ok (.iaload, 1) := dk_46 (dk_at dksX4_outbox_1 22 rfl rfl)
theorem dX4_outbox_47 : decode cX4_outbox 47 = .ok (.imul, 1) := dk_104 (dk_at dksX4_outbox_1 23 rfl rfl)
theorem dX4_outbox_48 : decode cX4_outbox 48 = .ok (.bipush 10, 2) := dk_16 10 (dk_at dksX4_outbox_2 0 rfl rfl)
theorem dX4_outbox_50 : decode cX4_outbox 50 = .ok (.aload_n 0, 1) := dk_42 (dk_at dksX4_outbox_2 2 rfl rfl)
theorem dX4_outbox_51 : decode cX4_outbox 51 = .ok (.getfield 146, 3) := dk_180 0 146 (dk_at dksX4_outbox_2 3 rfl rfl)
theorem dX4_outbox_54 : decode cX4_outbox 54 = .ok (.iload_n 2, 1) := dk_28 (dk_at dksX4_outbox_2 6 rfl rfl)
theorem dX4_outbox_55 : decode cX4_outbox 55 = .ok (.iconst 1, 1) := dk_4 (dk_at dksX4_outbox_2 7 rfl rfl)
theorem dX4_outbox_56 : decode cX4_outbox 56 = .ok (.iadd, 1) := dk_96 (dk_at dksX4_outbox_2 8 rfl rfl)
theorem dX4_outbox_57 : decode cX4_outbox 57 = .ok (.iaload, 1) := dk_46 (dk_at dksX4_outbox_2 9 rfl rfl)
theorem dX4_outbox_58 : decode cX4_outbox 58 = .ok (.imul, 1) := dk_104 (dk_at dksX4_outbox_2 10 rfl rfl)
theorem dX4_outbox_59 : decode cX4_outbox 59 = .ok (.iadd, 1) := dk_96 (dk_at dksX4_outbox_2 11 rfl rfl)
theorem dX4_outbox_60 : decode cX4_outbox 60 = .ok (.aload_n 0, 1) := dk_42 (dk_at dksX4_outbox_2 12 rfl rfl)
theorem dX4_outbox_61 : decode cX4_outbox 61 = .ok (.getfield 146, 3) := dk_180 0 146 (dk_at dksX4_outbox_2 13 rfl rfl)
theorem dX4_outbox_64 : decode cX4_outbox 64 = .ok (.iload_n 2, 1) := dk_28 (dk_at dksX4_outbox_2 16 rfl rfl)
theorem dX4_outbox_65 : decode cX4_outbox 65 = .ok (.iconst 2, 1) := dk_5 (dk_at dksX4_outbox_2 17 rfl rfl)
theorem dX4_outbox_66 : decode cX4_outbox 66 = .ok (.iadd, 1) := dk_96 (dk_at dksX4_outbox_2 18 rfl rfl)
theorem dX4_outbox_67 : decode cX4_outbox 67 = .ok (.iaload, 1) := dk_46 (dk_at dksX4_outbox_2 19 rfl rfl)
theorem dX4_outbox_68 : decode cX4_outbox 68 = .ok (.iadd, 1) := dk_96 (dk_at dksX4_outbox_2 20 rfl rfl)
theorem dX4_outbox_69 : decode cX4_outbox 69 = .ok (.i2l, 1) := dk_133 (dk_at dksX4_outbox_2 21 rfl rfl)
theorem dX4_outbox_70 : decode cX4_outbox 70 = .ok (.invokevirtual 345, 3) := dk_182 1 89 (dk_at dksX4_outbox_3 0 rfl rfl)
theorem dX4_outbox_73 : decode cX4_outbox 73 = .ok (.iinc 1 1, 3) := dk_132 1 1 (dk_at dksX4_outbox_3 3 rfl rfl)
theorem dX4_outbox_76 : decode cX4_outbox 76 = .ok (.goto (-64), 3) := dk_167 255 192 (dk_at dksX4_outbox_3 6 rfl rfl)
theorem dX4_outbox_79 : decode cX4_outbox 79 = .ok (.aload_n 0, 1) := dk_42 (dk_at dksX4_outbox_3 9 rfl rfl)
theorem dX4_outbox_80 : decode cX4_outbox 80 = .ok (.getfield 146, 3) := dk_180 0 146 (dk_at dksX4_outbox_3 10 rfl rfl)
theorem dX4_outbox_83 : decode cX4_outbox 83 = .ok (.sipush 814, 3) := dk_17 3 46 (dk_at dksX4_outbox_3 13 rfl rfl)
theorem dX4_outbox_86 : decode cX4_outbox 86 = .ok (.iaload, 1) := dk_46 (dk_at dksX4_outbox_3 16 rfl rfl)
theorem dX4_outbox_87 : decode cX4_outbox 87 = .ok (.ireturn, 1) := dk_172 (dk_at dksX4_outbox_3 17 rfl rfl)
abbrev cX4_phases : ByteArray := prog_13_method_87_code
def yX4_phases : MethodName := ⟨RX4, "phases", "(I)I"⟩
def dkwX4_phases_6 : List UInt8 := [182, 1, 147, 133, 182, 1, 89, 28, 172]
abbrev dktX4_phases_6 : List UInt8 := dkwX4_phases_6 ++ []
def dkwX4_phases_5 : List UInt8 := [180, 0, 137, 27, 46, 112, 133, 182, 1, 89, 42, 42, 27, 42, 180, 0, 146, 27, 16, 6, 184, 0, 220]
abbrev dktX4_phases_5 : List UInt8 := dkwX4_phases_5 ++ dktX4_phases_6
def dkwX4_phases_4 : List UInt8 := [132, 3, 1, 167, 255, 180, 42, 3, 181, 0, 11, 42, 42, 180, 0, 146, 27, 16, 6, 184, 0, 220, 42]
abbrev dktX4_phases_4 : List UInt8 := dkwX4_phases_4 ++ dktX4_phases_5
def dkwX4_phases_3 : List UInt8 := [155, 0, 20, 42, 27, 21, 4, 182, 1, 147, 4, 160, 0, 9, 4, 29, 120, 167, 0, 4, 3, 128, 61]
abbrev dktX4_phases_3 : List UInt8 := dkwX4_phases_3 ++ dktX4_phases_4
def dkwX4_phases_2 : List UInt8 := [21, 4, 42, 180, 0, 137, 27, 46, 112, 29, 159, 0, 9, 132, 4, 255, 167, 255, 235, 28, 21, 4]
abbrev dktX4_phases_2 : List UInt8 := dkwX4_phases_2 ++ dktX4_phases_3
def dkwX4_phases_1 : List UInt8 := [27, 46, 162, 0, 72, 42, 180, 0, 146, 27, 8, 184, 0, 220, 4, 100, 54, 4, 21, 4, 155, 0, 22]
abbrev dktX4_phases_1 : List UInt8 := dkwX4_phases_1 ++ dktX4_phases_2
def dkwX4_phases_0 : List UInt8 := [42, 3, 181, 0, 3, 42, 27, 182, 0, 212, 154, 0, 5, 2, 172, 3, 61, 3, 62, 29, 42, 180, 0, 137]
abbrev dktX4_phases_0 : List UInt8 := dkwX4_phases_0 ++ dktX4_phases_1
theorem dksX4_phases_0 : cX4_phases.data.toList.drop 0 = dktX4_phases_0 := by decide +kernel
theorem dksX4_phases_1 : cX4_phases.data.toList.drop 24 = dktX4_phases_1 := dk_seg dksX4_phases_0 24 rfl rfl
theorem dksX4_phases_2 : cX4_phases.data.toList.drop 47 = dktX4_phases_2 := dk_seg dksX4_phases_1 23 rfl rfl
theorem dksX4_phases_3 : cX4_phases.data.toList.drop 69 = dktX4_phases_3 := dk_seg dksX4_phases_2 22 rfl rfl
theorem dksX4_phases_4 : cX4_phases.data.toList.drop 92 = dktX4_phases_4 := dk_seg dksX4_phases_3 23 rfl rfl
theorem dksX4_phases_5 : cX4_phases.data.toList.drop 115 = dktX4_phases_5 := dk_seg dksX4_phases_4 23 rfl rfl
theorem dksX4_phases_6 : cX4_phases.data.toList.drop 138 = dktX4_phases_6 := dk_seg dksX4_phases_5 23 rfl rfl
theorem dX4_phases_0 : decode cX4_phases 0 = .ok (.aload_n 0, 1) := dk_42 (dk_at dksX4_phases_0 0 rfl rfl)
theorem dX4_phases_1 : decode cX4_phases 1 = .ok (.iconst 0, 1) := dk_3 (dk_at dksX4_phases_0 1 rfl rfl)
theorem dX4_phases_2 : decode cX4_phases 2 = .ok (.putfield 3, 3) := dk_181 0 3 (dk_at dksX4_phases_0 2 rfl rfl)
theorem dX4_phases_5 : decode cX4_phases 5 = .ok (.aload_n 0, 1) := dk_42 (dk_at dksX4_phases_0 5 rfl rfl)
theorem dX4_phases_6 : decode cX4_phases 6 = .ok (.iload_n 1, 1) := dk_27 (dk_at dksX4_phases_0 6 rfl rfl)
theorem dX4_phases_7 : decode cX4_phases 7 = .ok (.invokevirtual 212, 3) := dk_182 0 212 (dk_at dksX4_phases_0 7 rfl rfl)
theorem dX4_phases_10 : decode cX4_phases 10 = .ok (.ifCond .ne 5, 3) := dk_154 0 5 (dk_at dksX4_phases_0 10 rfl rfl)
theorem dX4_phases_13 : decode cX4_phases 13 = .ok (.iconst (-1), 1) := dk_2 (dk_at dksX4_phases_0 13 rfl rfl)
theorem dX4_phases_14 : decode cX4_phases 14 = .ok (.ireturn, 1) := dk_172 (dk_at dksX4_phases_0 14 rfl rfl)
theorem dX4_phases_15 : decode cX4_phases 15 = .ok (.iconst 0, 1) := dk_3 (dk_at dksX4_phases_0 15 rfl rfl)
theorem dX4_phases_16 : decode cX4_phases 16 = .ok (.istore_n 2, 1) := dk_61 (dk_at dksX4_phases_0 16 rfl rfl)
theorem dX4_phases_17 : decode cX4_phases 17 = .ok (.iconst 0, 1) := dk_3 (dk_at dksX4_phases_0 17 rfl rfl)
theorem dX4_phases_18 : decode cX4_phases 18 = .ok (.istore_n 3, 1) := dk_62 (dk_at dksX4_phases_0 18 rfl rfl)
theorem dX4_phases_19 : decode cX4_phases 19 = .ok (.iload_n 3, 1) := dk_29 (dk_at dksX4_phases_0 19 rfl rfl)
theorem dX4_phases_20 : decode cX4_phases 20 = .ok (.aload_n 0, 1) := dk_42 (dk_at dksX4_phases_0 20 rfl rfl)
theorem dX4_phases_21 : decode cX4_phases 21 = .ok (.getfield 137, 3) := dk_180 0 137 (dk_at dksX4_phases_0 21 rfl rfl)
theorem dX4_phases_24 : decode cX4_phases 24 = .ok (.iload_n 1, 1) := dk_27 (dk_at dksX4_phases_1 0 rfl rfl)
theorem dX4_phases_25 : decode cX4_phases 25 = .ok (.iaload, 1) := dk_46 (dk_at dksX4_phases_1 1 rfl rfl)
theorem dX4_phases_26 : decode cX4_phases 26 = .ok (.if_icmp .ge 72, 3) := dk_162 0 72 (dk_at dksX4_phases_1 2 rfl rfl)
theorem dX4_phases_29 : decode cX4_phases 29 = .ok (.aload_n 0, 1) := dk_42 (dk_at dksX4_phases_1 5 rfl rfl)
theorem dX4_phases_30 : decode cX4_phases 30 = .ok (.getfield 146, 3) := dk_180 0 146 (dk_at dksX4_phases_1 6 rfl rfl)
theorem dX4_phases_33 : decode cX4_phases 33 = .ok (.iload_n 1, 1) := dk_27 (dk_at dksX4_phases_1 9 rfl rfl)
theorem dX4_phases_34 : decode cX4_phases 34 = .ok (.iconst 5, 1) := dk_8 (dk_at dksX4_phases_1 10 rfl rfl)
theorem dX4_phases_35 : decode cX4_phases 35 = .ok (.invokestatic 220, 3) := dk_184 0 220 (dk_at dksX4_phases_1 11 rfl rfl)
theorem dX4_phases_38 : decode cX4_phases 38 = .ok (.iconst 1, 1) := dk_4 (dk_at dksX4_phases_1 14 rfl rfl)
theorem dX4_phases_39 : decode cX4_phases 39 = .ok (.isub, 1) := dk_100 (dk_at dksX4_phases_1 15 rfl rfl)
theorem dX4_phases_40 : decode cX4_phases 40 = .ok (.istore 4, 2) := dk_54 4 (dk_at dksX4_phases_1 16 rfl rfl)
theorem dX4_phases_42 : decode cX4_phases 42 = .ok (.iload 4, 2) := dk_21 4 (dk_at dksX4_phases_1 18 rfl rfl)
theorem dX4_phases_44 : decode cX4_phases 44 = .ok (.ifCond .lt 22, 3) := dk_155 0 22 (dk_at dksX4_phases_1 20 rfl rfl)
theorem dX4_phases_47 : decode cX4_phases 47 = .ok (.iload 4, 2) := dk_21 4 (dk_at dksX4_phases_2 0 rfl rfl)
theorem dX4_phases_49 : decode cX4_phases 49 = .ok (.aload_n 0, 1) := dk_42 (dk_at dksX4_phases_2 2 rfl rfl)
theorem dX4_phases_50 : decode cX4_phases 50 = .ok (.getfield 137, 3) := dk_180 0 137 (dk_at dksX4_phases_2 3 rfl rfl)
theorem dX4_phases_53 : decode cX4_phases 53 = .ok (.iload_n 1, 1) := dk_27 (dk_at dksX4_phases_2 6 rfl rfl)
theorem dX4_phases_54 : decode cX4_phases 54 = .ok (.iaload, 1) := dk_46 (dk_at dksX4_phases_2 7 rfl rfl)
theorem dX4_phases_55 : decode cX4_phases 55 = .ok (.irem, 1) := dk_112 (dk_at dksX4_phases_2 8 rfl rfl)
theorem dX4_phases_56 : decode cX4_phases 56 = .ok (.iload_n 3, 1) := dk_29 (dk_at dksX4_phases_2 9 rfl rfl)
theorem dX4_phases_57 : decode cX4_phases 57 = .ok (.if_icmp .eq 9, 3) := dk_159 0 9 (dk_at dksX4_phases_2 10 rfl rfl)
theorem dX4_phases_60 : decode cX4_phases 60 = .ok (.iinc 4 (-1), 3) := dk_132 4 255 (dk_at dksX4_phases_2 13 rfl rfl)
theorem dX4_phases_63 : decode cX4_phases 63 = .ok (.goto (-21), 3) := dk_167 255 235 (dk_at dksX4_phases_2 16 rfl rfl)
theorem dX4_phases_66 : decode cX4_phases 66 = .ok (.iload_n 2, 1) := dk_28 (dk_at dksX4_phases_2 19 rfl rfl)
theorem dX4_phases_67 : decode cX4_phases 67 = .ok (.iload 4, 2) := dk_21 4 (dk_at dksX4_phases_2 20 rfl rfl)
theorem dX4_phases_69 : decode cX4_phases 69 = .ok (.ifCond .lt 20, 3) := dk_155 0 20 (dk_at dksX4_phases_3 0 rfl rfl)
theorem dX4_phases_72 : decode cX4_phases 72 = .ok (.aload_n 0, 1) := dk_42 (dk_at dksX4_phases_3 3 rfl rfl)
theorem dX4_phases_73 : decode cX4_phases 73 = .ok (.iload_n 1, 1) := dk_27 (dk_at dksX4_phases_3 4 rfl rfl)
theorem dX4_phases_74 : decode cX4_phases 74 = .ok (.iload 4, 2) := dk_21 4 (dk_at dksX4_phases_3 5 rfl rfl)
theorem dX4_phases_76 : decode cX4_phases 76 = .ok (.invokevirtual 403, 3) := dk_182 1 147 (dk_at dksX4_phases_3 7 rfl rfl)
theorem dX4_phases_79 : decode cX4_phases 79 = .ok (.iconst 1, 1) := dk_4 (dk_at dksX4_phases_3 10 rfl rfl)
theorem dX4_phases_80 : decode cX4_phases 80 = .ok (.if_icmp .ne 9, 3) := dk_160 0 9 (dk_at dksX4_phases_3 11 rfl rfl)
theorem dX4_phases_83 : decode cX4_phases 83 = .ok (.iconst 1, 1) := dk_4 (dk_at dksX4_phases_3 14 rfl rfl)
theorem dX4_phases_84 : decode cX4_phases 84 = .ok (.iload_n 3, 1) := dk_29 (dk_at dksX4_phases_3 15 rfl rfl)
theorem dX4_phases_85 : decode cX4_phases 85 = .ok (.ishl, 1) := dk_120 (dk_at dksX4_phases_3 16 rfl rfl)
theorem dX4_phases_86 : decode cX4_phases 86 = .ok (.goto 4, 3) := dk_167 0 4 (dk_at dksX4_phases_3 17 rfl rfl)
theorem dX4_phases_89 : decode cX4_phases 89 = .ok (.iconst 0, 1) := dk_3 (dk_at dksX4_phases_3 20 rfl rfl)
theorem dX4_phases_90 : decode cX4_phases 90 = .ok (.ior, 1) := dk_128 (dk_at dksX4_phases_3 21 rfl rfl)
theorem dX4_phases_91 : decode cX4_phases 91 = .ok (.istore_n 2, 1) := dk_61 (dk_at dksX4_phases_3 22 rfl rfl)
theorem dX4_phases_92 : decode cX4_phases 92 = .ok (.iinc 3 1, 3) := dk_132 3 1 (dk_at dksX4_phases_4 0 rfl rfl)
theorem dX4_phases_95 : decode cX4_phases 95 = .ok (.goto (-76), 3) := dk_167 255 180 (dk_at dksX4_phases_4 3 rfl rfl)
theorem dX4_phases_98 : decode cX4_phases 98 = .ok (.aload_n 0, 1) := dk_42 (dk_at dksX4_phases_4 6 rfl rfl)
theorem dX4_phases_99 : decode cX4_phases 99 = .ok (.iconst 0, 1) := dk_3 (dk_at dksX4_phases_4 7 rfl rfl)
theorem dX4_phases_100 : decode cX4_phases 100 = .ok (.putfield 11, 3) := dk_181 0 11 (dk_at dksX4_phases_4 8 rfl rfl)
theorem dX4_phases_103 : decode cX4_phases 103 = .ok (.aload_n 0, 1) := dk_42 (dk_at dksX4_phases_4 11 rfl rfl)
theorem dX4_phases_104 : decode cX4_phases 104 = .ok (.aload_n 0, 1) := dk_42 (dk_at dksX4_phases_4 12 rfl rfl)
theorem dX4_phases_105 : decode cX4_phases 105 = .ok (.getfield 146, 3) := dk_180 0 146 (dk_at dksX4_phases_4 13 rfl rfl)
theorem dX4_phases_108 : decode cX4_phases 108 = .ok (.iload_n 1, 1) := dk_27 (dk_at dksX4_phases_4 16 rfl rfl)
theorem dX4_phases_109 : decode cX4_phases 109 = .ok (.bipush 6, 2) := dk_16 6 (dk_at dksX4_phases_4 17 rfl rfl)
theorem dX4_phases_111 : decode cX4_phases 111 = .ok (.invokestatic 220, 3) := dk_184 0 220 (dk_at dksX4_phases_4 19 rfl rfl)
theorem dX4_phases_114 : decode cX4_phases 114 = .ok (.aload_n 0, 1) := dk_42 (dk_at dksX4_phases_4 22 rfl rfl)
theorem dX4_phases_115 : decode cX4_phases 115 = .ok (.getfield 137, 3) := dk_180 0 137 (dk_at dksX4_phases_5 0 rfl rfl)
theorem dX4_phases_118 : decode cX4_phases 118 = .ok (.iload_n 1, 1) := dk_27 (dk_at dksX4_phases_5 3 rfl rfl)
theorem dX4_phases_119 : decode cX4_phases 119 = .ok (.iaload, 1) := dk_46 (dk_at dksX4_phases_5 4 rfl rfl)
theorem dX4_phases_120 : decode cX4_phases 120 = .ok (.irem, 1) := dk_112 (dk_at dksX4_phases_5 5 rfl rfl)
theorem dX4_phases_121 : decode cX4_phases 121 = .ok (.i2l, 1) := dk_133 (dk_at dksX4_phases_5 6 rfl rfl)
theorem dX4_phases_122 : decode cX4_phases 122 = .ok (.invokevirtual 345, 3) := dk_182 1 89 (dk_at dksX4_phases_5 7 rfl rfl)
theorem dX4_phases_125 : decode cX4_phases 125 = .ok (.aload_n 0, 1) := dk_42 (dk_at dksX4_phases_5 10 rfl rfl)
theorem dX4_phases_126 : decode cX4_phases 126 = .ok (.aload_n 0, 1) := dk_42 (dk_at dksX4_phases_5 11 rfl rfl)
theorem dX4_phases_127 : decode cX4_phases 127 = .ok (.iload_n 1, 1) := dk_27 (dk_at dksX4_phases_5 12 rfl rfl)
theorem dX4_phases_128 : decode cX4_phases 128 = .ok (.aload_n 0, 1) := dk_42 (dk_at dksX4_phases_5 13 rfl rfl)
theorem dX4_phases_129 : decode cX4_phases 129 = .ok (.getfield 146, 3) := dk_180 0 146 (dk_at dksX4_phases_5 14 rfl rfl)
theorem dX4_phases_132 : decode cX4_phases 132 = .ok (.iload_n 1, 1) := dk_27 (dk_at dksX4_phases_5 17 rfl rfl)
theorem dX4_phases_133 : decode cX4_phases 133 = .ok (.bipush 6, 2) := dk_16 6 (dk_at dksX4_phases_5 18 rfl rfl)
theorem dX4_phases_135 : decode cX4_phases 135 = .ok (.invokestatic 220, 3) := dk_184 0 220 (dk_at dksX4_phases_5 20 rfl rfl)
theorem dX4_phases_138 : decode cX4_phases 138 = .ok (.invokevirtual 403, 3) := dk_182 1 147 (dk_at dksX4_phases_6 0 rfl rfl)
theorem dX4_phases_141 : decode cX4_phases 141 = .ok (.i2l, 1) := dk_133 (dk_at dksX4_phases_6 3 rfl rfl)
theorem dX4_phases_142 : decode cX4_phases 142 = .ok (.invokevirtual 345, 3) := dk_182 1 89 (dk_at dksX4_phases_6 4 rfl rfl)
theorem dX4_phases_145 : decode cX4_phases 145 = .ok (.iload_n 2, 1) := dk_28 (dk_at dksX4_phases_6 7 rfl rfl)
theorem dX4_phases_146 : decode cX4_phases 146 = .ok (.ireturn, 1) := dk_172 (dk_at dksX4_phases_6 8 rfl rfl)
abbrev cX4_phase : ByteArray := prog_13_method_86_code
def yX4_phase : MethodName := ⟨RX4, "phase", "(II)I"⟩
def dkwX4_phase_0 : List UInt8 := [28, 42, 180, 0, 137, 27, 46, 108, 5, 112, 154, 0, 7, 4, 167, 0, 4, 3, 184, 0, 40, 172]
abbrev dktX4_phase_0 : List UInt8 := dkwX4_phase_0 ++ []
theorem dksX4_phase_0 : cX4_phase.data.toList.drop 0 = dktX4_phase_0 := by decide +kernel
theorem dX4_phase_0 : decode cX4_phase 0 = .ok (.iload_n 2, 1) := dk_28 (dk_at dksX4_phase_0 0 rfl rfl)
theorem dX4_phase_1 : decode cX4_phase 1 = .ok (.aload_n 0, 1) := dk_42 (dk_at dksX4_phase_0 1 rfl rfl)
theorem dX4_phase_2 : decode cX4_phase 2 = .ok (.getfield 137, 3) := dk_180 0 137 (dk_at dksX4_phase_0 2 rfl rfl)
theorem dX4_phase_5 : decode cX4_phase 5 = .ok (.iload_n 1, 1) := dk_27 (dk_at dksX4_phase_0 5 rfl rfl)
theorem dX4_phase_6 : decode cX4_phase 6 = .ok (.iaload, 1) := dk_46 (dk_at dksX4_phase_0 6 rfl rfl)
theorem dX4_phase_7 : decode cX4_phase 7 = .ok (.idiv, 1) := dk_108 (dk_at dksX4_phase_0 7 rfl rfl)
theorem dX4_phase_8 : decode cX4_phase 8 = .ok (.iconst 2, 1) := dk_5 (dk_at dksX4_phase_0 8 rfl rfl)
theorem dX4_phase_9 : decode cX4_phase 9 = .ok (.irem, 1) := dk_112 (dk_at dksX4_phase_0 9 rfl rfl)
theorem dX4_phase_10 : decode cX4_phase 10 = .ok (.ifCond .ne 7, 3) := dk_154 0 7 (dk_at dksX4_phase_0 10 rfl rfl)
theorem dX4_phase_13 : decode cX4_phase 13 = .ok (.iconst 1, 1) := dk_4 (dk_at dksX4_phase_0 13 rfl rfl)
theorem dX4_phase_14 : decode cX4_phase 14 = .ok (.goto 4, 3) := dk_167 0 4 (dk_at dksX4_phase_0 14 rfl rfl)
theorem dX4_phase_17 : decode cX4_phase 17 = .ok (.iconst 0, 1) := dk_3 (dk_at dksX4_phase_0 17 rfl rfl)
theorem dX4_phase_18 : decode cX4_phase 18 = .ok (.invokestatic 40, 3) := dk_184 0 40 (dk_at dksX4_phase_0 18 rfl rfl)
theorem dX4_phase_21 : decode cX4_phase 21 = .ok (.ireturn, 1) := dk_172 (dk_at dksX4_phase_0 21 rfl rfl)
abbrev cX4_room : ByteArray := prog_13_method_88_code
def yX4_room : MethodName := ⟨RX4, "room", "(I)I"⟩
def dkwX4_room_4 : List UInt8 := [182, 1, 89, 42, 29, 133, 182, 1, 89, 28, 29, 184, 0, 31, 172]
abbrev dktX4_room_4 : List UInt8 := dkwX4_room_4 ++ []
def dkwX4_room_3 : List UInt8 := [167, 0, 4, 3, 184, 0, 40, 96, 62, 132, 4, 1, 167, 255, 222, 42, 3, 181, 0, 11, 42, 28, 133]
abbrev dktX4_room_3 : List UInt8 := dkwX4_room_3 ++ dktX4_room_4
def dkwX4_room_2 : List UInt8 := [54, 4, 21, 4, 16, 16, 162, 0, 33, 29, 42, 180, 0, 146, 27, 21, 4, 184, 1, 9, 154, 0, 7, 4]
abbrev dktX4_room_2 : List UInt8 := dkwX4_room_2 ++ dktX4_room_3
def dkwX4_room_1 : List UInt8 := [180, 0, 146, 27, 3, 184, 0, 220, 100, 42, 180, 0, 146, 27, 7, 184, 0, 220, 96, 61, 3, 62, 3]
abbrev dktX4_room_1 : List UInt8 := dkwX4_room_1 ++ dktX4_room_2
def dkwX4_room_0 : List UInt8 := [42, 3, 181, 0, 3, 42, 27, 182, 0, 212, 154, 0, 5, 2, 172, 42, 180, 0, 134, 27, 46, 4, 100, 42]
abbrev dktX4_room_0 : List UInt8 := dkwX4_room_0 ++ dktX4_room_1
theorem dksX4_room_0 : cX4_room.data.toList.drop 0 = dktX4_room_0 := by decide +kernel
theorem dksX4_room_1 : cX4_room.data.toList.drop 24 = dktX4_room_1 := dk_seg dksX4_room_0 24 rfl rfl
theorem dksX4_room_2 : cX4_room.data.toList.drop 47 = dktX4_room_2 := dk_seg dksX4_room_1 23 rfl rfl
theorem dksX4_room_3 : cX4_room.data.toList.drop 71 = dktX4_room_3 := dk_seg dksX4_room_2 24 rfl rfl
theorem dksX4_room_4 : cX4_room.data.toList.drop 94 = dktX4_room_4 := dk_seg dksX4_room_3 23 rfl rfl
theorem dX4_room_0 : decode cX4_room 0 = .ok (.aload_n 0, 1) := dk_42 (dk_at dksX4_room_0 0 rfl rfl)
theorem dX4_room_1 : decode cX4_room 1 = .ok (.iconst 0, 1) := dk_3 (dk_at dksX4_room_0 1 rfl rfl)
theorem dX4_room_2 : decode cX4_room 2 = .ok (.putfield 3, 3) := dk_181 0 3 (dk_at dksX4_room_0 2 rfl rfl)
theorem dX4_room_5 : decode cX4_room 5 = .ok (.aload_n 0, 1) := dk_42 (dk_at dksX4_room_0 5 rfl rfl)
theorem dX4_room_6 : decode cX4_room 6 = .ok (.iload_n 1, 1) := dk_27 (dk_at dksX4_room_0 6 rfl rfl)
theorem dX4_room_7 : decode cX4_room 7 = .ok (.invokevirtual 212, 3) := dk_182 0 212 (dk_at dksX4_room_0 7 rfl rfl)
theorem dX4_room_10 : decode cX4_room 10 = .ok (.ifCond .ne 5, 3) := dk_154 0 5 (dk_at dksX4_room_0 10 rfl rfl)
theorem dX4_room_13 : decode cX4_room 13 = .ok (.iconst (-1), 1) := dk_2 (dk_at dksX4_room_0 13 rfl rfl)
theorem dX4_room_14 : decode cX4_room 14 = .ok (.ireturn, 1) := dk_172 (dk_at dksX4_room_0 14 rfl rfl)
theorem dX4_room_15 : decode cX4_room 15 = .ok (.aload_n 0, 1) := dk_42 (dk_at dksX4_room_0 15 rfl rfl)
theorem dX4_room_16 : decode cX4_room 16 = .ok (.getfield 134, 3) := dk_180 0 134 (dk_at dksX4_room_0 16 rfl rfl)
theorem dX4_room_19 : decode cX4_room 19 = .ok (.iload_n 1, 1) := dk_27 (dk_at dksX4_room_0 19 rfl rfl)
theorem dX4_room_20 : decode cX4_room 20 = .ok (.iaload, 1) := dk_46 (dk_at dksX4_room_0 20 rfl rfl)
theorem dX4_room_21 : decode cX4_room 21 = .ok (.iconst 1, 1) := dk_4 (dk_at dksX4_room_0 21 rfl rfl)
theorem dX4_room_22 : decode cX4_room 22 = .ok (.isub, 1) := dk_100 (dk_at dksX4_room_0 22 rfl rfl)
theorem dX4_room_23 : decode cX4_room 23 = .ok (.aload_n 0, 1) := dk_42 (dk_at dksX4_room_0 23 rfl rfl)
theorem dX4_room_24 : decode cX4_room 24 = .ok (.getfield 146, 3) := dk_180 0 146 (dk_at dksX4_room_1 0 rfl rfl)
theorem dX4_room_27 : decode cX4_room 27 = .ok (.iload_n 1, 1) := dk_27 (dk_at dksX4_room_1 3 rfl rfl)
theorem dX4_room_28 : decode cX4_room 28 = .ok (.iconst 0, 1) := dk_3 (dk_at dksX4_room_1 4 rfl rfl)
theorem dX4_room_29 : decode cX4_room 29 = .ok (.invokestatic 220, 3) := dk_184 0 220 (dk_at dksX4_room_1 5 rfl rfl)
theorem dX4_room_32 : decode cX4_room 32 = .ok (.isub, 1) := dk_100 (dk_at dksX4_room_1 8 rfl rfl)
theorem dX4_room_33 : decode cX4_room 33 = .ok (.aload_n 0, 1) := dk_42 (dk_at dksX4_room_1 9 rfl rfl)
theorem dX4_room_34 : decode cX4_room 34 = .ok (.getfield 146, 3) := dk_180 0 146 (dk_at dksX4_room_1 10 rfl rfl)
theorem dX4_room_37 : decode cX4_room 37 = .ok (.iload_n 1, 1) := dk_27 (dk_at dksX4_room_1 13 rfl rfl)
theorem dX4_room_38 : decode cX4_room 38 = .ok (.iconst 4, 1) := dk_7 (dk_at dksX4_room_1 14 rfl rfl)
theorem dX4_room_39 : decode cX4_room 39 = .ok (.invokestatic 220, 3) := dk_184 0 220 (dk_at dksX4_room_1 15 rfl rfl)
theorem dX4_room_42 : decode cX4_room 42 = .ok (.iadd, 1) := dk_96 (dk_at dksX4_room_1 18 rfl rfl)
theorem dX4_room_43 : decode cX4_room 43 = .ok (.istore_n 2, 1) := dk_61 (dk_at dksX4_room_1 19 rfl rfl)
theorem dX4_room_44 : decode cX4_room 44 = .ok (.iconst 0, 1) := dk_3 (dk_at dksX4_room_1 20 rfl rfl)
theorem dX4_room_45 : decode cX4_room 45 = .ok (.istore_n 3, 1) := dk_62 (dk_at dksX4_room_1 21 rfl rfl)
theorem dX4_room_46 : decode cX4_room 46 = .ok (.iconst 0, 1) := dk_3 (dk_at dksX4_room_1 22 rfl rfl)
theorem dX4_room_47 : decode cX4_room 47 = .ok (.istore 4, 2) := dk_54 4 (dk_at dksX4_room_2 0 rfl rfl)
theorem dX4_room_49 : decode cX4_room 49 = .ok (.iload 4, 2) := dk_21 4 (dk_at dksX4_room_2 2 rfl rfl)
theorem dX4_room_51 : decode cX4_room 51 = .ok (.bipush 16, 2) := dk_16 16 (dk_at dksX4_room_2 4 rfl rfl)
theorem dX4_room_53 : decode cX4_room 53 = .ok (.if_icmp .ge 33, 3) := dk_162 0 33 (dk_at dksX4_room_2 6 rfl rfl)
theorem dX4_room_56 : decode cX4_room 56 = .ok (.iload_n 3, 1) := dk_29 (dk_at dksX4_room_2 9 rfl rfl)
theorem dX4_room_57 : decode cX4_room 57 = .ok (.aload_n 0, 1) := dk_42 (dk_at dksX4_room_2 10 rfl rfl)
theorem dX4_room_58 : decode cX4_room 58 = .ok (.getfield 146, 3) := dk_180 0 146 (dk_at dksX4_room_2 11 rfl rfl)
theorem dX4_room_61 : decode cX4_room 61 = .ok (.iload_n 1, 1) := dk_27 (dk_at dksX4_room_2 14 rfl rfl)
theorem dX4_room_62 : decode cX4_room 62 = .ok (.iload 4, 2) := dk_21 4 (dk_at dksX4_room_2 15 rfl rfl)
theorem dX4_room_64 : decode cX4_room 64 = .ok (.invokestatic 265, 3) := dk_184 1 9 (dk_at dksX4_room_2 17 rfl rfl)
theorem dX4_room_67 : decode cX4_room 67 = .ok (.ifCond .ne 7, 3) := dk_154 0 7 (dk_at dksX4_room_2 20 rfl rfl)
theorem dX4_room_70 : decode cX4_room 70 = .ok (.iconst 1, 1) := dk_4 (dk_at dksX4_room_2 23 rfl rfl)
theorem dX4_room_71 : decode cX4_room 71 = .ok (.goto 4, 3) := dk_167 0 4 (dk_at dksX4_room_3 0 rfl rfl)
theorem dX4_room_74 : decode cX4_room 74 = .ok (.iconst 0, 1) := dk_3 (dk_at dksX4_room_3 3 rfl rfl)
theorem dX4_room_75 : decode cX4_room 75 = .ok (.invokestatic 40, 3) := dk_184 0 40 (dk_at dksX4_room_3 4 rfl rfl)
theorem dX4_room_78 : decode cX4_room 78 = .ok (.iadd, 1) := dk_96 (dk_at dksX4_room_3 7 rfl rfl)
theorem dX4_room_79 : decode cX4_room 79 = .ok (.istore_n 3, 1) := dk_62 (dk_at dksX4_room_3 8 rfl rfl)
theorem dX4_room_80 : decode cX4_room 80 = .ok (.iinc 4 1, 3) := dk_132 4 1 (dk_at dksX4_room_3 9 rfl rfl)
theorem dX4_room_83 : decode cX4_room 83 = .ok (.goto (-34), 3) := dk_167 255 222 (dk_at dksX4_room_3 12 rfl rfl)
theorem dX4_room_86 : decode cX4_room 86 = .ok (.aload_n 0, 1) := dk_42 (dk_at dksX4_room_3 15 rfl rfl)
theorem dX4_room_87 : decode cX4_room 87 = .ok (.iconst 0, 1) := dk_3 (dk_at dksX4_room_3 16 rfl rfl)
theorem dX4_room_88 : decode cX4_room 88 = .ok (.putfield 11, 3) := dk_181 0 11 (dk_at dksX4_room_3 17 rfl rfl)
theorem dX4_room_91 : decode cX4_room 91 = .ok (.aload_n 0, 1) := dk_42 (dk_at dksX4_room_3 20 rfl rfl)
theorem dX4_room_92 : decode cX4_room 92 = .ok (.iload_n 2, 1) := dk_28 (dk_at dksX4_room_3 21 rfl rfl)
theorem dX4_room_93 : decode cX4_room 93 = .ok (.i2l, 1) := dk_133 (dk_at dksX4_room_3 22 rfl rfl)
theorem dX4_room_94 : decode cX4_room 94 = .ok (.invokevirtual 345, 3) := dk_182 1 89 (dk_at dksX4_room_4 0 rfl rfl)
theorem dX4_room_97 : decode cX4_room 97 = .ok (.aload_n 0, 1) := dk_42 (dk_at dksX4_room_4 3 rfl rfl)
theorem dX4_room_98 : decode cX4_room 98 = .ok (.iload_n 3, 1) := dk_29 (dk_at dksX4_room_4 4 rfl rfl)
theorem dX4_room_99 : decode cX4_room 99 = .ok (.i2l, 1) := dk_133 (dk_at dksX4_room_4 5 rfl rfl)
theorem dX4_room_100 : decode cX4_room 100 = .ok (.invokevirtual 345, 3) := dk_182 1 89 (dk_at dksX4_room_4 6 rfl rfl)
theorem dX4_room_103 : decode cX4_room 103 = .ok (.iload_n 2, 1) := dk_28 (dk_at dksX4_room_4 9 rfl rfl)
theorem dX4_room_104 : decode cX4_room 104 = .ok (.iload_n 3, 1) := dk_29 (dk_at dksX4_room_4 10 rfl rfl)
theorem dX4_room_105 : decode cX4_room 105 = .ok (.invokestatic 31, 3) := dk_184 0 31 (dk_at dksX4_room_4 11 rfl rfl)
theorem dX4_room_108 : decode cX4_room 108 = .ok (.ireturn, 1) := dk_172 (dk_at dksX4_room_4 14 rfl rfl)
abbrev cX4_block : ByteArray := prog_13_method_90_code
def yX4_block : MethodName := ⟨RX4, "block", "(I)I"⟩
def dkwX4_block_8 : List UInt8 := [180, 0, 146, 17, 3, 60, 27, 96, 46, 172]
abbrev dktX4_block_8 : List UInt8 := dkwX4_block_8 ++ []
def dkwX4_block_7 : List UInt8 := [132, 4, 1, 167, 255, 179, 42, 3, 181, 0, 11, 42, 28, 133, 182, 1, 89, 42, 29, 133, 182, 1, 89, 42]
abbrev dktX4_block_7 : List UInt8 := dkwX4_block_7 ++ dktX4_block_8
def dkwX4_block_6 : List UInt8 := [184, 0, 236, 16, 6, 96, 27, 184, 1, 150, 153, 0, 7, 4, 167, 0, 4, 3, 184, 0, 40, 96, 96, 62]
abbrev dktX4_block_6 : List UInt8 := dkwX4_block_6 ++ dktX4_block_7
def dkwX4_block_5 : List UInt8 := [184, 1, 150, 184, 0, 40, 42, 180, 0, 146, 21, 4, 184, 0, 242, 153, 0, 26, 42, 180, 0, 146, 21, 4]
abbrev dktX4_block_5 : List UInt8 := dkwX4_block_5 ++ dktX4_block_6
def dkwX4_block_4 : List UInt8 := [42, 180, 0, 146, 17, 1, 237, 46, 162, 0, 70, 29, 42, 180, 0, 146, 21, 4, 184, 0, 236, 4, 96, 27]
abbrev dktX4_block_4 : List UInt8 := dkwX4_block_4 ++ dktX4_block_5
def dkwX4_block_3 : List UInt8 := [184, 0, 40, 96, 61, 132, 4, 1, 167, 255, 219, 132, 3, 1, 167, 255, 194, 3, 62, 3, 54, 4, 21, 4]
abbrev dktX4_block_3 : List UInt8 := dkwX4_block_3 ++ dktX4_block_4
def dkwX4_block_2 : List UInt8 := [29, 3, 184, 0, 220, 162, 0, 29, 28, 42, 180, 0, 146, 29, 21, 4, 184, 0, 239, 27, 184, 1, 150]
abbrev dktX4_block_2 : List UInt8 := dkwX4_block_2 ++ dktX4_block_3
def dkwX4_block_1 : List UInt8 := [42, 180, 0, 198, 162, 0, 60, 42, 180, 0, 146, 29, 6, 184, 0, 220, 54, 4, 21, 4, 42, 180, 0, 146]
abbrev dktX4_block_1 : List UInt8 := dkwX4_block_1 ++ dktX4_block_2
def dkwX4_block_0 : List UInt8 := [42, 3, 181, 0, 3, 27, 133, 9, 20, 1, 14, 184, 0, 21, 154, 0, 5, 2, 172, 3, 61, 3, 62, 29]
abbrev dktX4_block_0 : List UInt8 := dkwX4_block_0 ++ dktX4_block_1
theorem dksX4_block_0 : cX4_block.data.toList.drop 0 = dktX4_block_0 := by decide +kernel
theorem dksX4_block_1 : cX4_block.data.toList.drop 24 = dktX4_block_1 := dk_seg dksX4_block_0 24 rfl rfl
theorem dksX4_block_2 : cX4_block.data.toList.drop 48 = dktX4_block_2 := dk_seg dksX4_block_1 24 rfl rfl
theorem dksX4_block_3 : cX4_block.data.toList.drop 71 = dktX4_block_3 := dk_seg dksX4_block_2 23 rfl rfl
theorem dksX4_block_4 : cX4_block.data.toList.drop 95 = dktX4_block_4 := dk_seg dksX4_block_3 24 rfl rfl
theorem dksX4_block_5 : cX4_block.data.toList.drop 119 = dktX4_block_5 := dk_seg dksX4_block_4 24 rfl rfl
theorem dksX4_block_6 : cX4_block.data.toList.drop 143 = dktX4_block_6 := dk_seg dksX4_block_5 24 rfl rfl
theorem dksX4_block_7 : cX4_block.data.toList.drop 167 = dktX4_block_7 := dk_seg dksX4_block_6 24 rfl rfl
theorem dksX4_block_8 : cX4_block.data.toList.drop 191 = dktX4_block_8 := dk_seg dksX4_block_7 24 rfl rfl
theorem dX4_block_0 : decode cX4_block 0 = .ok (.aload_n 0, 1) := dk_42 (dk_at dksX4_block_0 0 rfl rfl)
theorem dX4_block_1 : decode cX4_block 1 = .ok (.iconst 0, 1) := dk_3 (dk_at dksX4_block_0 1 rfl rfl)
theorem dX4_block_2 : decode cX4_block 2 = .ok (.putfield 3, 3) := dk_181 0 3 (dk_at dksX4_block_0 2 rfl rfl)
theorem dX4_block_5 : decode cX4_block 5 = .ok (.iload_n 1, 1) := dk_27 (dk_at dksX4_block_0 5 rfl rfl)
theorem dX4_block_6 : decode cX4_block 6 = .ok (.i2l, 1) := dk_133 (dk_at dksX4_block_0 6 rfl rfl)
theorem dX4_block_7 : decode cX4_block 7 = .ok (.lconst 0, 1) := dk_9 (dk_at dksX4_block_0 7 rfl rfl)
theorem dX4_block_8 : decode cX4_block 8 = .ok (.ldc2_w 270, 3) := dk_20 1 14 (dk_at dksX4_block_0 8 rfl rfl)
theorem dX4_block_11 : decode cX4_block 11 = .ok (.invokestatic 21, 3) := dk_184 0 21 (dk_at dksX4_block_0 11 rfl rfl)
theorem dX4_block_14 : decode cX4_block 14 = .ok (.ifCond .ne 5, 3) := dk_154 0 5 (dk_at dksX4_block_0 14 rfl rfl)
theorem dX4_block_17 : decode cX4_block 17 = .ok (.iconst (-1), 1) := dk_2 (dk_at dksX4_block_0 17 rfl rfl)
theorem dX4_block_18 : decode cX4_block 18 = .ok (.ireturn, 1) := dk_172 (dk_at dksX4_block_0 18 rfl rfl)
theorem dX4_block_19 : decode cX4_block 19 = .ok (.iconst 0, 1) := dk_3 (dk_at dksX4_block_0 19 rfl rfl)
theorem dX4_block_20 : decode cX4_block 20 = .ok (.istore_n 2, 1) := dk_61 (dk_at dksX4_block_0 20 rfl rfl)
theorem dX4_block_21 : decode cX4_block 21 = .ok (.iconst 0, 1) := dk_3 (dk_at dksX4_block_0 21 rfl rfl)
theorem dX4_block_22 : decode cX4_block 22 = .ok (.istore_n 3, 1) := dk_62 (dk_at dksX4_block_0 22 rfl rfl)
theorem dX4_block_23 : decode cX4_block 23 = .ok (.iload_n 3, 1) := dk_29 (dk_at dksX4_block_0 23 rfl rfl)
theorem dX4_block_24 : decode cX4_block 24 = .ok (.aload_n 0, 1) := dk_42 (dk_at dksX4_block_1 0 rfl rfl)
theorem dX4_block_25 : decode cX4_block 25 = .ok (.getfield 198, 3) := dk_180 0 198 (dk_at dksX4_block_1 1 rfl rfl)
theorem dX4_block_28 : decode cX4_block 28 = .ok (.if_icmp .ge 60, 3) := dk_162 0 60 (dk_at dksX4_block_1 4 rfl rfl)
theorem dX4_block_31 : decode cX4_block 31 = .ok (.aload_n 0, 1) := dk_42 (dk_at dksX4_block_1 7 rfl rfl)
theorem dX4_block_32 : decode cX4_block 32 = .ok (.getfield 146, 3) := dk_180 0 146 (dk_at dksX4_block_1 8 rfl rfl)
theorem dX4_block_35 : decode cX4_block 35 = .ok (.iload_n 3, 1) := dk_29 (dk_at dksX4_block_1 11 rfl rfl)
theorem dX4_block_36 : decode cX4_block 36 = .ok (.iconst 3, 1) := dk_6 (dk_at dksX4_block_1 12 rfl rfl)
theorem dX4_block_37 : decode cX4_block 37 = .ok (.invokestatic 220, 3) := dk_184 0 220 (dk_at dksX4_block_1 13 rfl rfl)
theorem dX4_block_40 : decode cX4_block 40 = .ok (.istore 4, 2) := dk_54 4 (dk_at dksX4_block_1 16 rfl rfl)
theorem dX4_block_42 : decode cX4_block 42 = .ok (.iload 4, 2) := dk_21 4 (dk_at dksX4_block_1 18 rfl rfl)
theorem dX4_block_44 : decode cX4_block 44 = .ok (.aload_n 0, 1) := dk_42 (dk_at dksX4_block_1 20 rfl rfl)
theorem dX4_block_45 : decode cX4_block 45 = .ok (.getfield 146, 3) := dk_180 0 146 (dk_at dksX4_block_1 21 rfl rfl)
theorem dX4_block_48 : decode cX4_block 48 = .ok (.iload_n 3, 1) := dk_29 (dk_at dksX4_block_2 0 rfl rfl)
theorem dX4_block_49 : decode cX4_block 49 = .ok (.iconst 0, 1) := dk_3 (dk_at dksX4_block_2 1 rfl rfl)
theorem dX4_block_50 : decode cX4_block 50 = .ok (.invokestatic 220, 3) := dk_184 0 220 (dk_at dksX4_block_2 2 rfl rfl)
theorem dX4_block_53 : decode cX4_block 53 = .ok (.if_icmp .ge 29, 3) := dk_162 0 29 (dk_at dksX4_block_2 5 rfl rfl)
theorem dX4_block_56 : decode cX4_block 56 = .ok (.iload_n 2, 1) := dk_28 (dk_at dksX4_block_2 8 rfl rfl)
theorem dX4_block_57 : decode cX4_block 57 = .ok (.aload_n 0, 1) := dk_42 (dk_at dksX4_block_2 9 rfl rfl)
theorem dX4_block_58 : decode cX4_block 58 = .ok (.getfield 146, 3) := dk_180 0 146 (dk_at dksX4_block_2 10 rfl rfl)
theorem dX4_block_61 : decode cX4_block 61 = .ok (.iload_n 3, 1) := dk_29 (dk_at dksX4_block_2 13 rfl rfl)
theorem dX4_block_62 : decode cX4_block 62 = .ok (.iload 4, 2) := dk_21 4 (dk_at dksX4_block_2 14 rfl rfl)
theorem dX4_block_64 : decode cX4_block 64 = .ok (.invokestatic 239, 3) := dk_184 0 239 (dk_at dksX4_block_2 16 rfl rfl)
theorem dX4_block_67 : decode cX4_block 67 = .ok (.iload_n 1, 1) := dk_27 (dk_at dksX4_block_2 19 rfl rfl)
theorem dX4_block_68 : decode cX4_block 68 = .ok (.invokestatic 406, 3) := dk_184 1 150 (dk_at dksX4_block_2 20 rfl rfl)
theorem dX4_block_71 : decode cX4_block 71 = .ok (.invokestatic 40, 3) := dk_184 0 40 (dk_at dksX4_block_3 0 rfl rfl)
theorem dX4_block_74 : decode cX4_block 74 = .ok (.iadd, 1) := dk_96 (dk_at dksX4_block_3 3 rfl rfl)
theorem dX4_block_75 : decode cX4_block 75 = .ok (.istore_n 2, 1) := dk_61 (dk_at dksX4_block_3 4 rfl rfl)
theorem dX4_block_76 : decode cX4_block 76 = .ok (.iinc 4 1, 3) := dk_132 4 1 (dk_at dksX4_block_3 5 rfl rfl)
theorem dX4_block_79 : decode cX4_block 79 = .ok (.goto (-37), 3) := dk_167 255 219 (dk_at dksX4_block_3 8 rfl rfl)
theorem dX4_block_82 : decode cX4_block 82 = .ok (.iinc 3 1, 3) := dk_132 3 1 (dk_at dksX4_block_3 11 rfl rfl)
theorem dX4_block_85 : decode cX4_block 85 = .ok (.goto (-62), 3) := dk_167 255 194 (dk_at dksX4_block_3 14 rfl rfl)
theorem dX4_block_88 : decode cX4_block 88 = .ok (.iconst 0, 1) := dk_3 (dk_at dksX4_block_3 17 rfl rfl)
theorem dX4_block_89 : decode cX4_block 89 = .ok (.istore_n 3, 1) := dk_62 (dk_at dksX4_block_3 18 rfl rfl)
theorem dX4_block_90 : decode cX4_block 90 = .ok (.iconst 0, 1) := dk_3 (dk_at dksX4_block_3 19 rfl rfl)
theorem dX4_block_91 : decode cX4_block 91 = .ok (.istore 4, 2) := dk_54 4 (dk_at dksX4_block_3 20 rfl rfl)
theorem dX4_block_93 : decode cX4_block 93 = .ok (.iload 4, 2) := dk_21 4 (dk_at dksX4_block_3 22 rfl rfl)
theorem dX4_block_95 : decode cX4_block 95 = .ok (.aload_n 0, 1) := dk_42 (dk_at dksX4_block_4 0 rfl rfl)
theorem dX4_block_96 : decode cX4_block 96 = .ok (.getfield 146, 3) := dk_180 0 146 (dk_at dksX4_block_4 1 rfl rfl)
theorem dX4_block_99 : decode cX4_block 99 = .ok (.sipush 493, 3) := dk_17 1 237 (dk_at dksX4_block_4 4 rfl rfl)
theorem dX4_block_102 : decode cX4_block 102 = .ok (.iaload, 1) := dk_46 (dk_at dksX4_block_4 7 rfl rfl)
theorem dX4_block_103 : decode cX4_block 103 = .ok (.if_icmp .ge 70, 3) := dk_162 0 70 (dk_at dksX4_block_4 8 rfl rfl)
theorem dX4_block_106 : decode cX4_block 106 = .ok (.iload_n 3, 1) := dk_29 (dk_at dksX4_block_4 11 rfl rfl)
theorem dX4_block_107 : decode cX4_block 107 = .ok (.aload_n 0, 1) := dk_42 (dk_at dksX4_block_4 12 rfl rfl)
theorem dX4_block_108 : decode cX4_block 108 = .ok (.getfield 146, 3) := dk_180 0 146 (dk_at dksX4_block_4 13 rfl rfl)
theorem dX4_block_111 : decode cX4_block 111 = .ok (.iload 4, 2) := dk_21 4 (dk_at dksX4_block_4 16 rfl rfl)
theorem dX4_block_113 : decode cX4_block 113 = .ok (.invokestatic 236, 3) := dk_184 0 236 (dk_at dksX4_block_4 18 rfl rfl)
theorem dX4_block_116 : decode cX4_block 116 = .ok (.iconst 1, 1) := dk_4 (dk_at dksX4_block_4 21 rfl rfl)
theorem dX4_block_117 : decode cX4_block 117 = .ok (.iadd, 1) := dk_96 (dk_at dksX4_block_4 22 rfl rfl)
theorem dX4_block_118 : decode cX4_block 118 = .ok (.iload_n 1, 1) := dk_27 (dk_at dksX4_block_4 23 rfl rfl)
theorem dX4_block_119 : decode cX4_block 119 = .ok (.invokestatic 406, 3) := dk_184 1 150 (dk_at dksX4_block_5 0 rfl rfl)
theorem dX4_block_122 : decode cX4_block 122 = .ok (.invokestatic 40, 3) := dk_184 0 40 (dk_at dksX4_block_5 3 rfl rfl)
theorem dX4_block_125 : decode cX4_block 125 = .ok (.aload_n 0, 1) := dk_42 (dk_at dksX4_block_5 6 rfl rfl)
theorem dX4_block_126 : decode cX4_block 126 = .ok (.getfield 146, 3) := dk_180 0 146 (dk_at dksX4_block_5 7 rfl rfl)
theorem dX4_block_129 : decode cX4_block 129 = .ok (.iload 4, 2) := dk_21 4 (dk_at dksX4_block_5 10 rfl rfl)
theorem dX4_block_131 : decode cX4_block 131 = .ok (.invokestatic 242, 3) := dk_184 0 242 (dk_at dksX4_block_5 12 rfl rfl)
theorem dX4_block_134 : decode cX4_block 134 = .ok (.ifCond .eq 26, 3) := dk_153 0 26 (dk_at dksX4_block_5 15 rfl rfl)
theorem dX4_block_137 : decode cX4_block 137 = .ok (.aload_n 0, 1) := dk_42 (dk_at dksX4_block_5 18 rfl rfl)
theorem dX4_block_138 : decode cX4_block 138 = .ok (.getfield 146, 3) := dk_180 0 146 (dk_at dksX4_block_5 19 rfl rfl)
theorem dX4_block_141 : decode cX4_block 141 = .ok (.iload 4, 2) := dk_21 4 (dk_at dksX4_block_5 22 rfl rfl)
theorem dX4_block_143 : decode cX4_block 143 = .ok (.invokestatic 236, 3) := dk_184 0 236 (dk_at dksX4_block_6 0 rfl rfl)
theorem dX4_block_146 : decode cX4_block 146 = .ok (.bipush 6, 2) := dk_16 6 (dk_at dksX4_block_6 3 rfl rfl)
theorem dX4_block_148 : decode cX4_block 148 = .ok (.iadd, 1) := dk_96 (dk_at dksX4_block_6 5 rfl rfl)
theorem dX4_block_149 : decode cX4_block 149 = .ok (.iload_n 1, 1) := dk_27 (dk_at dksX4_block_6 6 rfl rfl)
theorem dX4_block_150 : decode cX4_block 150 = .ok (.invokestatic 406, 3) := dk_184 1 150 (dk_at dksX4_block_6 7 rfl rfl)
theorem dX4_block_153 : decode cX4_block 153 = .ok (.ifCond .eq 7, 3) := dk_153 0 7 (dk_at dksX4_block_6 10 rfl rfl)
theorem dX4_block_156 : decode cX4_block 156 = .ok (.iconst 1, 1) := dk_4 (dk_at dksX4_block_6 13 rfl rfl)
theorem dX4_block_157 : decode cX4_block 157 = .ok (.goto 4, 3) := dk_167 0 4 (dk_at dksX4_block_6 14 rfl rfl)
theorem dX4_block_160 : decode cX4_block 160 = .ok (.iconst 0, 1) := dk_3 (dk_at dksX4_block_6 17 rfl rfl)
theorem dX4_block_161 : decode cX4_block 161 = .ok (.invokestatic 40, 3) := dk_184 0 40 (dk_at dksX4_block_6 18 rfl rfl)
theorem dX4_block_164 : decode cX4_block 164 = .ok (.iadd, 1) := dk_96 (dk_at dksX4_block_6 21 rfl rfl)
theorem dX4_block_165 : decode cX4_block 165 = .ok (.iadd, 1) := dk_96 (dk_at dksX4_block_6 22 rfl rfl)
theorem dX4_block_166 : decode cX4_block 166 = .ok (.istore_n 3, 1) := dk_62 (dk_at dksX4_block_6 23 rfl rfl)
theorem dX4_block_167 : decode cX4_block 167 = .ok (.iinc 4 1, 3) := dk_132 4 1 (dk_at dksX4_block_7 0 rfl rfl)
theorem dX4_block_170 : decode cX4_block 170 = .ok (.goto (-77), 3) := dk_167 255 179 (dk_at dksX4_block_7 3 rfl rfl)
theorem dX4_block_173 : decode cX4_block 173 = .ok (.aload_n 0, 1) := dk_42 (dk_at dksX4_block_7 6 rfl rfl)
theorem dX4_block_174 : decode cX4_block 174 = .ok (.iconst 0, 1) := dk_3 (dk_at dksX4_block_7 7 rfl rfl)
theorem dX4_block_175 : decode cX4_block 175 = .ok (.putfield 11, 3) := dk_181 0 11 (dk_at dksX4_block_7 8 rfl rfl)
theorem dX4_block_178 : decode cX4_block 178 = .ok (.aload_n 0, 1) := dk_42 (dk_at dksX4_block_7 11 rfl rfl)
theorem dX4_block_179 : decode cX4_block 179 = .ok (.iload_n 2, 1) := dk_28 (dk_at dksX4_block_7 12 rfl rfl)
theorem dX4_block_180 : decode cX4_block 180 = .ok (.i2l, 1) := dk_133 (dk_at dksX4_block_7 13 rfl rfl)
theorem dX4_block_181 : decode cX4_block 181 = .ok (.invokevirtual 345, 3) := dk_182 1 89 (dk_at dksX4_block_7 14 rfl rfl)
theorem dX4_block_184 : decode cX4_block 184 = .ok (.aload_n 0, 1) := dk_42 (dk_at dksX4_block_7 17 rfl rfl)
theorem dX4_block_185 : decode cX4_block 185 = .ok (.iload_n 3, 1) := dk_29 (dk_at dksX4_block_7 18 rfl rfl)
theorem dX4_block_186 : decode cX4_block 186 = .ok (.i2l, 1) := dk_133 (dk_at dksX4_block_7 19 rfl rfl)
theorem dX4_block_187 : decode cX4_block 187 = .ok (.invokevirtual 345, 3) := dk_182 1 89 (dk_at dksX4_block_7 20 rfl rfl)
theorem dX4_block_190 : decode cX4_block 190 = .ok (.aload_n 0, 1) := dk_42 (dk_at dksX4_block_7 23 rfl rfl)
theorem dX4_block_191 : decode cX4_block 191 = .ok (.getfield 146, 3) := dk_180 0 146 (dk_at dksX4_block_8 0 rfl rfl)
theorem dX4_block_194 : decode cX4_block 194 = .ok (.sipush 828, 3) := dk_17 3 60 (dk_at dksX4_block_8 3 rfl rfl)
theorem dX4_block_197 : decode cX4_block 197 = .ok (.iload_n 1, 1) := dk_27 (dk_at dksX4_block_8 6 rfl rfl)
theorem dX4_block_198 : decode cX4_block 198 = .ok (.iadd, 1) := dk_96 (dk_at dksX4_block_8 7 rfl rfl)
theorem dX4_block_199 : decode cX4_block 199 = .ok (.iaload, 1) := dk_46 (dk_at dksX4_block_8 8 rfl rfl)
theorem dX4_block_200 : decode cX4_block 200 = .ok (.ireturn, 1) := dk_172 (dk_at dksX4_block_8 9 rfl rfl)
abbrev cX4_isWrite : ByteArray := prog_13_method_89_code
def yX4_isWrite : MethodName := ⟨RX4, "isWrite", "([III)Z"⟩
def dkwX4_isWrite_1 : List UInt8 := [160, 0, 15, 42, 27, 7, 96, 46, 154, 0, 7, 4, 167, 0, 4, 3, 172]
abbrev dktX4_isWrite_1 : List UInt8 := dkwX4_isWrite_1 ++ []
def dkwX4_isWrite_0 : List UInt8 := [42, 27, 4, 96, 46, 4, 159, 0, 12, 42, 27, 4, 96, 46, 6, 160, 0, 24, 42, 27, 5, 96, 46, 28]
abbrev dktX4_isWrite_0 : List UInt8 := dkwX4_isWrite_0 ++ dktX4_isWrite_1
theorem dksX4_isWrite_0 : cX4_isWrite.data.toList.drop 0 = dktX4_isWrite_0 := by decide +kernel
theorem dksX4_isWrite_1 : cX4_isWrite.data.toList.drop 24 = dktX4_isWrite_1 := dk_seg dksX4_isWrite_0 24 rfl rfl
theorem dX4_isWrite_0 : decode cX4_isWrite 0 = .ok (.aload_n 0, 1) := dk_42 (dk_at dksX4_isWrite_0 0 rfl rfl)
theorem dX4_isWrite_1 : decode cX4_isWrite 1 = .ok (.iload_n 1, 1) := dk_27 (dk_at dksX4_isWrite_0 1 rfl rfl)
theorem dX4_isWrite_2 : decode cX4_isWrite 2 = .ok (.iconst 1, 1) := dk_4 (dk_at dksX4_isWrite_0 2 rfl rfl)
theorem dX4_isWrite_3 : decode cX4_isWrite 3 = .ok (.iadd, 1) := dk_96 (dk_at dksX4_isWrite_0 3 rfl rfl)
theorem dX4_isWrite_4 : decode cX4_isWrite 4 = .ok (.iaload, 1) := dk_46 (dk_at dksX4_isWrite_0 4 rfl rfl)
theorem dX4_isWrite_5 : decode cX4_isWrite 5 = .ok (.iconst 1, 1) := dk_4 (dk_at dksX4_isWrite_0 5 rfl rfl)
theorem dX4_isWrite_6 : decode cX4_isWrite 6 = .ok (.if_icmp .eq 12, 3) := dk_159 0 12 (dk_at dksX4_isWrite_0 6 rfl rfl)
theorem dX4_isWrite_9 : decode cX4_isWrite 9 = .ok (.aload_n 0, 1) := dk_42 (dk_at dksX4_isWrite_0 9 rfl rfl)
theorem dX4_isWrite_10 : decode cX4_isWrite 10 = .ok (.iload_n 1, 1) := dk_27 (dk_at dksX4_isWrite_0 10 rfl rfl)
theorem dX4_isWrite_11 : decode cX4_isWrite 11 = .ok (.iconst 1, 1) := dk_4 (dk_at dksX4_isWrite_0 11 rfl rfl)
theorem dX4_isWrite_12 : decode cX4_isWrite 12 = .ok (.iadd, 1) := dk_96 (dk_at dksX4_isWrite_0 12 rfl rfl)
theorem dX4_isWrite_13 : decode cX4_isWrite 13 = .ok (.iaload, 1) := dk_46 (dk_at dksX4_isWrite_0 13 rfl rfl)
theorem dX4_isWrite_14 : decode cX4_isWrite 14 = .ok (.iconst 3, 1) := dk_6 (dk_at dksX4_isWrite_0 14 rfl rfl)
theorem dX4_isWrite_15 : decode cX4_isWrite 15 = .ok (.if_icmp .ne 24, 3) := dk_160 0 24 (dk_at dksX4_isWrite_0 15 rfl rfl)
theorem dX4_isWrite_18 : decode cX4_isWrite 18 = .ok (.aload_n 0, 1) := dk_42 (dk_at dksX4_isWrite_0 18 rfl rfl)
theorem dX4_isWrite_19 : decode cX4_isWrite 19 = .ok (.iload_n 1, 1) := dk_27 (dk_at dksX4_isWrite_0 19 rfl rfl)
theorem dX4_isWrite_20 : decode cX4_isWrite 20 = .ok (.iconst 2, 1) := dk_5 (dk_at dksX4_isWrite_0 20 rfl rfl)
theorem dX4_isWrite_21 : decode cX4_isWrite 21 = .ok (.iadd, 1) := dk_96 (dk_at dksX4_isWrite_0 21 rfl rfl)
theorem dX4_isWrite_22 : decode cX4_isWrite 22 = .ok (.iaload, 1) := dk_46 (dk_at dksX4_isWrite_0 22 rfl rfl)
theorem dX4_isWrite_23 : decode cX4_isWrite 23 = .ok (.iload_n 2, 1) := dk_28 (dk_at dksX4_isWrite_0 23 rfl rfl)
theorem dX4_isWrite_24 : decode cX4_isWrite 24 = .ok (.if_icmp .ne 15, 3) := dk_160 0 15 (dk_at dksX4_isWrite_1 0 rfl rfl)
theorem dX4_isWrite_27 : decode cX4_isWrite 27 = .ok (.aload_n 0, 1) := dk_42 (dk_at dksX4_isWrite_1 3 rfl rfl)
theorem dX4_isWrite_28 : decode cX4_isWrite 28 = .ok (.iload_n 1, 1) := dk_27 (dk_at dksX4_isWrite_1 4 rfl rfl)
theorem dX4_isWrite_29 : decode cX4_isWrite 29 = .ok (.iconst 4, 1) := dk_7 (dk_at dksX4_isWrite_1 5 rfl rfl)
theorem dX4_isWrite_30 : decode cX4_isWrite 30 = .ok (.iadd, 1) := dk_96 (dk_at dksX4_isWrite_1 6 rfl rfl)
theorem dX4_isWrite_31 : decode cX4_isWrite 31 = .ok (.iaload, 1) := dk_46 (dk_at dksX4_isWrite_1 7 rfl rfl)
theorem dX4_isWrite_32 : decode cX4_isWrite 32 = .ok (.ifCond .ne 7, 3) := dk_154 0 7 (dk_at dksX4_isWrite_1 8 rfl rfl)
theorem dX4_isWrite_35 : decode cX4_isWrite 35 = .ok (.iconst 1, 1) := dk_4 (dk_at dksX4_isWrite_1 11 rfl rfl)
theorem dX4_isWrite_36 : decode cX4_isWrite 36 = .ok (.goto 4, 3) := dk_167 0 4 (dk_at dksX4_isWrite_1 12 rfl rfl)
theorem dX4_isWrite_39 : decode cX4_isWrite 39 = .ok (.iconst 0, 1) := dk_3 (dk_at dksX4_isWrite_1 15 rfl rfl)
theorem dX4_isWrite_40 : decode cX4_isWrite 40 = .ok (.ireturn, 1) := dk_172 (dk_at dksX4_isWrite_1 16 rfl rfl)
abbrev cX4_next : ByteArray := prog_13_method_92_code
def yX4_next : MethodName := ⟨RX4, "next", "()I"⟩
def dkwX4_next_3 : List UInt8 := [180, 0, 140, 27, 46, 96, 46, 133, 182, 1, 89, 27, 172]
abbrev dktX4_next_3 : List UInt8 := dkwX4_next_3 ++ []
def dkwX4_next_2 : List UInt8 := [42, 42, 180, 0, 140, 27, 46, 154, 0, 7, 9, 167, 0, 19, 42, 180, 0, 149, 17, 3, 50, 42]
abbrev dktX4_next_2 : List UInt8 := dkwX4_next_2 ++ dktX4_next_3
def dkwX4_next_1 : List UInt8 := [42, 180, 0, 149, 182, 1, 50, 60, 42, 3, 181, 0, 11, 42, 42, 180, 0, 140, 27, 46, 133, 182, 1, 89]
abbrev dktX4_next_1 : List UInt8 := dkwX4_next_1 ++ dktX4_next_2
def dkwX4_next_0 : List UInt8 := [42, 3, 181, 0, 3, 42, 42, 180, 0, 146, 182, 1, 79, 154, 0, 6, 16, 254, 172, 42, 182, 1, 153, 42]
abbrev dktX4_next_0 : List UInt8 := dkwX4_next_0 ++ dktX4_next_1
theorem dksX4_next_0 : cX4_next.data.toList.drop 0 = dktX4_next_0 := by decide +kernel
theorem dksX4_next_1 : cX4_next.data.toList.drop 24 = dktX4_next_1 := dk_seg dksX4_next_0 24 rfl rfl
theorem dksX4_next_2 : cX4_next.data.toList.drop 48 = dktX4_next_2 := dk_seg dksX4_next_1 24 rfl rfl
theorem dksX4_next_3 : cX4_next.data.toList.drop 70 = dktX4_next_3 := dk_seg dksX4_next_2 22 rfl rfl
theorem dX4_next_0 : decode cX4_next 0 = .ok (.aload_n 0, 1) := dk_42 (dk_at dksX4_next_0 0 rfl rfl)
theorem dX4_next_1 : decode cX4_next 1 = .ok (.iconst 0, 1) := dk_3 (dk_at dksX4_next_0 1 rfl rfl)
theorem dX4_next_2 : decode cX4_next 2 = .ok (.putfield 3, 3) := dk_181 0 3 (dk_at dksX4_next_0 2 rfl rfl)
theorem dX4_next_5 : decode cX4_next 5 = .ok (.aload_n 0, 1) := dk_42 (dk_at dksX4_next_0 5 rfl rfl)
theorem dX4_next_6 : decode cX4_next 6 = .ok (.aload_n 0, 1) := dk_42 (dk_at dksX4_next_0 6 rfl rfl)
theorem dX4_next_7 : decode cX4_next 7 = .ok (.getfield 146, 3) := dk_180 0 146 (dk_at dksX4_next_0 7 rfl rfl)
theorem dX4_next_10 : decode cX4_next 10 = .ok (.invokevirtual 335, 3) := dk_182 1 79 (dk_at dksX4_next_0 10 rfl rfl)
theorem dX4_next_13 : decode cX4_next 13 = .ok (.ifCond .ne 6, 3) := dk_154 0 6 (dk_at dksX4_next_0 13 rfl rfl)
theorem dX4_next_16 : decode cX4_next 16 = .ok (.bipush (-2), 2) := dk_16 254 (dk_at dksX4_next_0 16 rfl rfl)
theorem dX4_next_18 : decode cX4_next 18 = .ok (.ireturn, 1) := dk_172 (dk_at dksX4_next_0 18 rfl rfl)
theorem dX4_next_19 : decode cX4_next 19 = .ok (.aload_n 0, 1) := dk_42 (dk_at dksX4_next_0 19 rfl rfl)
theorem dX4_next_20 : decode cX4_next 20 = .ok (.invokevirtual 409, 3) := dk_182 1 153 (dk_at dksX4_next_0 20 rfl rfl)
theorem dX4_next_23 : decode cX4_next 23 = .ok (.aload_n 0, 1) := dk_42 (dk_at dksX4_next_0 23 rfl rfl)
theorem dX4_next_24 : decode cX4_next 24 = .ok (.aload_n 0, 1) := dk_42 (dk_at dksX4_next_1 0 rfl rfl)
theorem dX4_next_25 : decode cX4_next 25 = .ok (.getfield 149, 3) := dk_180 0 149 (dk_at dksX4_next_1 1 rfl rfl)
theorem dX4_next_28 : decode cX4_next 28 = .ok (.invokevirtual 306, 3) := dk_182 1 50 (dk_at dksX4_next_1 4 rfl rfl)
theorem dX4_next_31 : decode cX4_next 31 = .ok (.istore_n 1, 1) := dk_60 (dk_at dksX4_next_1 7 rfl rfl)
theorem dX4_next_32 : decode cX4_next 32 = .ok (.aload_n 0, 1) := dk_42 (dk_at dksX4_next_1 8 rfl rfl)
theorem dX4_next_33 : decode cX4_next 33 = .ok (.iconst 0, 1) := dk_3 (dk_at dksX4_next_1 9 rfl rfl)
theorem dX4_next_34 : decode cX4_next 34 = .ok (.putfield 11, 3) := dk_181 0 11 (dk_at dksX4_next_1 10 rfl rfl)
theorem dX4_next_37 : decode cX4_next 37 = .ok (.aload_n 0, 1) := dk_42 (dk_at dksX4_next_1 13 rfl rfl)
theorem dX4_next_38 : decode cX4_next 38 = .ok (.aload_n 0, 1) := dk_42 (dk_at dksX4_next_1 14 rfl rfl)
theorem dX4_next_39 : decode cX4_next 39 = .ok (.getfield 140, 3) := dk_180 0 140 (dk_at dksX4_next_1 15 rfl rfl)
theorem dX4_next_42 : decode cX4_next 42 = .ok (.iload_n 1, 1) := dk_27 (dk_at dksX4_next_1 18 rfl rfl)
theorem dX4_next_43 : decode cX4_next 43 = .ok (.iaload, 1) := dk_46 (dk_at dksX4_next_1 19 rfl rfl)
theorem dX4_next_44 : decode cX4_next 44 = .ok (.i2l, 1) := dk_133 (dk_at dksX4_next_1 20 rfl rfl)
theorem dX4_next_45 : decode cX4_next 45 = .ok (.invokevirtual 345, 3) := dk_182 1 89 (dk_at dksX4_next_1 21 rfl rfl)
theorem dX4_next_48 : decode cX4_next 48 = .ok (.aload_n 0, 1) := dk_42 (dk_at dksX4_next_2 0 rfl rfl)
theorem dX4_next_49 : decode cX4_next 49 = .ok (.aload_n 0, 1) := dk_42 (dk_at dksX4_next_2 1 rfl rfl)
theorem dX4_next_50 : decode cX4_next 50 = .ok (.getfield 140, 3) := dk_180 0 140 (dk_at dksX4_next_2 2 rfl rfl)
theorem dX4_next_53 : decode cX4_next 53 = .ok (.iload_n 1, 1) := dk_27 (dk_at dksX4_next_2 5 rfl rfl)
theorem dX4_next_54 : decode cX4_next 54 = .ok (.iaload, 1) := dk_46 (dk_at dksX4_next_2 6 rfl rfl)
theorem dX4_next_55 : decode cX4_next 55 = .ok (.ifCond .ne 7, 3) := dk_154 0 7 (dk_at dksX4_next_2 7 rfl rfl)
theorem dX4_next_58 : decode cX4_next 58 = .ok (.lconst 0, 1) := dk_9 (dk_at dksX4_next_2 10 rfl rfl)
theorem dX4_next_59 : decode cX4_next 59 = .ok (.goto 19, 3) := dk_167 0 19 (dk_at dksX4_next_2 11 rfl rfl)
theorem dX4_next_62 : decode cX4_next 62 = .ok (.aload_n 0, 1) := dk_42 (dk_at dksX4_next_2 14 rfl rfl)
theorem dX4_next_63 : decode cX4_next 63 = .ok (.getfield 149, 3) := dk_180 0 149 (dk_at dksX4_next_2 15 rfl rfl)
theorem dX4_next_66 : decode cX4_next 66 = .ok (.sipush 818, 3) := dk_17 3 50 (dk_at dksX4_next_2 18 rfl rfl)
theorem dX4_next_69 : decode cX4_next 69 = .ok (.aload_n 0, 1) := dk_42 (dk_at dksX4_next_2 21 rfl rfl)
theorem dX4_next_70 : decode cX4_next 70 = .ok (.getfield 140, 3) := dk_180 0 140 (dk_at dksX4_next_3 0 rfl rfl)
theorem dX4_next_73 : decode cX4_next 73 = .ok (.iload_n 1, 1) := dk_27 (dk_at dksX4_next_3 3 rfl rfl)
theorem dX4_next_74 : decode cX4_next 74 = .ok (.iaload, 1) := dk_46 (dk_at dksX4_next_3 4 rfl rfl)
theorem dX4_next_75 : decode cX4_next 75 = .ok (.iadd, 1) := dk_96 (dk_at dksX4_next_3 5 rfl rfl)
theorem dX4_next_76 : decode cX4_next 76 = .ok (.iaload, 1) := dk_46 (dk_at dksX4_next_3 6 rfl rfl)
theorem dX4_next_77 : decode cX4_next 77 = .ok (.i2l, 1) := dk_133 (dk_at dksX4_next_3 7 rfl rfl)
theorem dX4_next_78 : decode cX4_next 78 = .ok (.invokevirtual 345, 3) := dk_182 1 89 (dk_at dksX4_next_3 8 rfl rfl)
theorem dX4_next_81 : decode cX4_next 81 = .ok (.iload_n 1, 1) := dk_27 (dk_at dksX4_next_3 11 rfl rfl)
theorem dX4_next_82 : decode cX4_next 82 = .ok (.ireturn, 1) := dk_172 (dk_at dksX4_next_3 12 rfl rfl)
abbrev cX4_copies : ByteArray := prog_13_method_91_code
def yX4_copies : MethodName := ⟨RX4, "copies", "()V"⟩
def dkwX4_copies_1 : List UInt8 := [167, 255, 234, 177]
abbrev dktX4_copies_1 : List UInt8 := dkwX4_copies_1 ++ []
def dkwX4_copies_0 : List UInt8 := [3, 60, 27, 17, 3, 76, 162, 0, 21, 42, 180, 0, 149, 27, 42, 180, 0, 146, 27, 46, 79, 132, 1, 1]
abbrev dktX4_copies_0 : List UInt8 := dkwX4_copies_0 ++ dktX4_copies_1
theorem dksX4_copies_0 : cX4_copies.data.toList.drop 0 = dktX4_copies_0 := by decide +kernel
theorem dksX4_copies_1 : cX4_copies.data.toList.drop 24 = dktX4_copies_1 := dk_seg dksX4_copies_0 24 rfl rfl
theorem dX4_copies_0 : decode cX4_copies 0 = .ok (.iconst 0, 1) := dk_3 (dk_at dksX4_copies_0 0 rfl rfl)
theorem dX4_copies_1 : decode cX4_copies 1 = .ok (.istore_n 1, 1) := dk_60 (dk_at dksX4_copies_0 1 rfl rfl)
theorem dX4_copies_2 : decode cX4_copies 2 = .ok (.iload_n 1, 1) := dk_27 (dk_at dksX4_copies_0 2 rfl rfl)
theorem dX4_copies_3 : decode cX4_copies 3 = .ok (.sipush 844, 3) := dk_17 3 76 (dk_at dksX4_copies_0 3 rfl rfl)
theorem dX4_copies_6 : decode cX4_copies 6 = .ok (.if_icmp .ge 21, 3) := dk_162 0 21 (dk_at dksX4_copies_0 6 rfl rfl)
theorem dX4_copies_9 : decode cX4_copies 9 = .ok (.aload_n 0, 1) := dk_42 (dk_at dksX4_copies_0 9 rfl rfl)
theorem dX4_copies_10 : decode cX4_copies 10 = .ok (.getfield 149, 3) := dk_180 0 149 (dk_at dksX4_copies_0 10 rfl rfl)
theorem dX4_copies_13 : decode cX4_copies 13 = .ok (.iload_n 1, 1) := dk_27 (dk_at dksX4_copies_0 13 rfl rfl)
theorem dX4_copies_14 : decode cX4_copies 14 = .ok (.aload_n 0, 1) := dk_42 (dk_at dksX4_copies_0 14 rfl rfl)
theorem dX4_copies_15 : decode cX4_copies 15 = .ok (.getfield 146, 3) := dk_180 0 146 (dk_at dksX4_copies_0 15 rfl rfl)
theorem dX4_copies_18 : decode cX4_copies 18 = .ok (.iload_n 1, 1) := dk_27 (dk_at dksX4_copies_0 18 rfl rfl)
theorem dX4_copies_19 : decode cX4_copies 19 = .ok (.iaload, 1) := dk_46 (dk_at dksX4_copies_0 19 rfl rfl)
theorem dX4_copies_20 : decode cX4_copies 20 = .ok (.iastore, 1) := dk_79 (dk_at dksX4_copies_0 20 rfl rfl)
theorem dX4_copies_21 : decode cX4_copies 21 = .ok (.iinc 1 1, 3) := dk_132 1 1 (dk_at dksX4_copies_0 21 rfl rfl)
theorem dX4_copies_24 : decode cX4_copies 24 = .ok (.goto (-22), 3) := dk_167 255 234 (dk_at dksX4_copies_1 0 rfl rfl)
theorem dX4_copies_27 : decode cX4_copies 27 = .ok (.return_, 1) := dk_177 (dk_at dksX4_copies_1 3 rfl rfl)
abbrev cX4_deals : ByteArray := prog_13_method_93_code
def yX4_deals : MethodName := ⟨RX4, "deals", "(I)I"⟩
def dkwX4_deals_7 : List UInt8 := [46, 133, 182, 1, 89, 132, 2, 1, 167, 255, 237, 42, 180, 0, 170, 3, 46, 172]
abbrev dktX4_deals_7 : List UInt8 := dkwX4_deals_7 ++ []
def dkwX4_deals_6 : List UInt8 := [46, 133, 182, 1, 89, 132, 2, 1, 167, 255, 237, 3, 61, 28, 8, 162, 0, 20, 42, 42, 180, 0, 173, 28]
abbrev dktX4_deals_6 : List UInt8 := dkwX4_deals_6 ++ dktX4_deals_7
def dkwX4_deals_5 : List UInt8 := [132, 2, 1, 167, 255, 214, 42, 3, 181, 0, 11, 4, 61, 28, 7, 162, 0, 20, 42, 42, 180, 0, 170, 28]
abbrev dktX4_deals_5 : List UInt8 := dkwX4_deals_5 ++ dktX4_deals_6
def dkwX4_deals_4 : List UInt8 := [180, 0, 170, 42, 180, 0, 140, 29, 46, 92, 46, 4, 96, 79, 42, 180, 0, 173, 29, 92, 46, 4, 96, 79]
abbrev dktX4_deals_4 : List UInt8 := dkwX4_deals_4 ++ dktX4_deals_5
def dkwX4_deals_3 : List UInt8 := [132, 2, 1, 167, 255, 241, 3, 61, 28, 27, 162, 0, 43, 42, 42, 180, 0, 149, 182, 1, 50, 62, 42]
abbrev dktX4_deals_3 : List UInt8 := dkwX4_deals_3 ++ dktX4_deals_4
def dkwX4_deals_2 : List UInt8 := [28, 3, 79, 132, 2, 1, 167, 255, 241, 3, 61, 28, 8, 162, 0, 16, 42, 180, 0, 173, 28, 3, 79]
abbrev dktX4_deals_2 : List UInt8 := dkwX4_deals_2 ++ dktX4_deals_3
def dkwX4_deals_1 : List UInt8 := [182, 1, 79, 154, 0, 6, 16, 254, 172, 42, 182, 1, 153, 3, 61, 28, 7, 162, 0, 16, 42, 180, 0, 170]
abbrev dktX4_deals_1 : List UInt8 := dkwX4_deals_1 ++ dktX4_deals_2
def dkwX4_deals_0 : List UInt8 := [42, 3, 181, 0, 3, 27, 133, 10, 20, 1, 112, 184, 0, 21, 154, 0, 5, 2, 172, 42, 42, 180, 0, 146]
abbrev dktX4_deals_0 : List UInt8 := dkwX4_deals_0 ++ dktX4_deals_1
theorem dksX4_deals_0 : cX4_deals.data.toList.drop 0 = dktX4_deals_0 := by decide +kernel
theorem dksX4_deals_1 : cX4_deals.data.toList.drop 24 = dktX4_deals_1 := dk_seg dksX4_deals_0 24 rfl rfl
theorem dksX4_deals_2 : cX4_deals.data.toList.drop 48 = dktX4_deals_2 := dk_seg dksX4_deals_1 24 rfl rfl
theorem dksX4_deals_3 : cX4_deals.data.toList.drop 71 = dktX4_deals_3 := dk_seg dksX4_deals_2 23 rfl rfl
theorem dksX4_deals_4 : cX4_deals.data.toList.drop 94 = dktX4_deals_4 := dk_seg dksX4_deals_3 23 rfl rfl
theorem dksX4_deals_5 : cX4_deals.data.toList.drop 118 = dktX4_deals_5 := dk_seg dksX4_deals_4 24 rfl rfl
theorem dksX4_deals_6 : cX4_deals.data.toList.drop 142 = dktX4_deals_6 := dk_seg dksX4_deals_5 24 rfl rfl
theorem dksX4_deals_7 : cX4_deals.data.toList.drop 166 = dktX4_deals_7 := dk_seg dksX4_deals_6 24 rfl rfl
theorem dX4_deals_0 : decode cX4_deals 0 = .ok (.aload_n 0, 1) := dk_42 (dk_at dksX4_deals_0 0 rfl rfl)
theorem dX4_deals_1 : decode cX4_deals 1 = .ok (.iconst 0, 1) := dk_3 (dk_at dksX4_deals_0 1 rfl rfl)
theorem dX4_deals_2 : decode cX4_deals 2 = .ok (.putfield 3, 3) := dk_181 0 3 (dk_at dksX4_deals_0 2 rfl rfl)
theorem dX4_deals_5 : decode cX4_deals 5 = .ok (.iload_n 1, 1) := dk_27 (dk_at dksX4_deals_0 5 rfl rfl)
theorem dX4_deals_6 : decode cX4_deals 6 = .ok (.i2l, 1) := dk_133 (dk_at dksX4_deals_0 6 rfl rfl)
theorem dX4_deals_7 : decode cX4_deals 7 = .ok (.lconst 1, 1) := dk_10 (dk_at dksX4_deals_0 7 rfl rfl)
theorem dX4_deals_8 : decode cX4_deals 8 = .ok (.ldc2_w 368, 3) := dk_20 1 112 (dk_at dksX4_deals_0 8 rfl rfl)
theorem dX4_deals_11 : decode cX4_deals 11 = .ok (.invokestatic 21, 3) := dk_184 0 21 (dk_at dksX4_deals_0 11 rfl rfl)
theorem dX4_deals_14 : decode cX4_deals 14 = .ok (.ifCond .ne 5, 3) := dk_154 0 5 (dk_at dksX4_deals_0 14 rfl rfl)
theorem dX4_deals_17 : decode cX4_deals 17 = .ok (.iconst (-1), 1) := dk_2 (dk_at dksX4_deals_0 17 rfl rfl)
theorem dX4_deals_18 : decode cX4_deals 18 = .ok (.ireturn, 1) := dk_172 (dk_at dksX4_deals_0 18 rfl rfl)
theorem dX4_deals_19 : decode cX4_deals 19 = .ok (.aload_n 0, 1) := dk_42 (dk_at dksX4_deals_0 19 rfl rfl)
theorem dX4_deals_20 : decode cX4_deals 20 = .ok (.aload_n 0, 1) := dk_42 (dk_at dksX4_deals_0 20 rfl rfl)
theorem dX4_deals_21 : decode cX4_deals 21 = .ok (.getfield 146, 3) := dk_180 0 146 (dk_at dksX4_deals_0 21 rfl rfl)
theorem dX4_deals_24 : decode cX4_deals 24 = .ok (.invokevirtual 335, 3) := dk_182 1 79 (dk_at dksX4_deals_1 0 rfl rfl)
theorem dX4_deals_27 : decode cX4_deals 27 = .ok (.ifCond .ne 6, 3) := dk_154 0 6 (dk_at dksX4_deals_1 3 rfl rfl)
theorem dX4_deals_30 : decode cX4_deals 30 = .ok (.bipush (-2), 2) := dk_16 254 (dk_at dksX4_deals_1 6 rfl rfl)
theorem dX4_deals_32 : decode cX4_deals 32 = .ok (.ireturn, 1) := dk_172 (dk_at dksX4_deals_1 8 rfl rfl)
theorem dX4_deals_33 : decode cX4_deals 33 = .ok (.aload_n 0, 1) := dk_42 (dk_at dksX4_deals_1 9 rfl rfl)
theorem dX4_deals_34 : decode cX4_deals 34 = .ok (.invokevirtual 409, 3) := dk_182 1 153 (dk_at dksX4_deals_1 10 rfl rfl)
theorem dX4_deals_37 : decode cX4_deals 37 = .ok (.iconst 0, 1) := dk_3 (dk_at dksX4_deals_1 13 rfl rfl)
theorem dX4_deals_38 : decode cX4_deals 38 = .ok (.istore_n 2, 1) := dk_61 (dk_at dksX4_deals_1 14 rfl rfl)
theorem dX4_deals_39 : decode cX4_deals 39 = .ok (.iload_n 2, 1) := dk_28 (dk_at dksX4_deals_1 15 rfl rfl)
theorem dX4_deals_40 : decode cX4_deals 40 = .ok (.iconst 4, 1) := dk_7 (dk_at dksX4_deals_1 16 rfl rfl)
theorem dX4_deals_41 : decode cX4_deals 41 = .ok (.if_icmp .ge 16, 3) := dk_162 0 16 (dk_at dksX4_deals_1 17 rfl rfl)
theorem dX4_deals_44 : decode cX4_deals 44 = .ok (.aload_n 0, 1) := dk_42 (dk_at dksX4_deals_1 20 rfl rfl)
theorem dX4_deals_45 : decode cX4_deals 45 = .ok (.getfield 170, 3) := dk_180 0 170 (dk_at dksX4_deals_1 21 rfl rfl)
theorem dX4_deals_48 : decode cX4_deals 48 = .ok (.iload_n 2, 1) := dk_28 (dk_at dksX4_deals_2 0 rfl rfl)
theorem dX4_deals_49 : decode cX4_deals 49 = .ok (.iconst 0, 1) := dk_3 (dk_at dksX4_deals_2 1 rfl rfl)
theorem dX4_deals_50 : decode cX4_deals 50 = .ok (.iastore, 1) := dk_79 (dk_at dksX4_deals_2 2 rfl rfl)
theorem dX4_deals_51 : decode cX4_deals 51 = .ok (.iinc 2 1, 3) := dk_132 2 1 (dk_at dksX4_deals_2 3 rfl rfl)
theorem dX4_deals_54 : decode cX4_deals 54 = .ok (.goto (-15), 3) := dk_167 255 241 (dk_at dksX4_deals_2 6 rfl rfl)
theorem dX4_deals_57 : decode cX4_deals 57 = .ok (.iconst 0, 1) := dk_3 (dk_at dksX4_deals_2 9 rfl rfl)
theorem dX4_deals_58 : decode cX4_deals 58 = .ok (.istore_n 2, 1) := dk_61 (dk_at dksX4_deals_2 10 rfl rfl)
theorem dX4_deals_59 : decode cX4_deals 59 = .ok (.iload_n 2, 1) := dk_28 (dk_at dksX4_deals_2 11 rfl rfl)
theorem dX4_deals_60 : decode cX4_deals 60 = .ok (.iconst 5, 1) := dk_8 (dk_at dksX4_deals_2 12 rfl rfl)
theorem dX4_deals_61 : decode cX4_deals 61 = .ok (.if_icmp .ge 16, 3) := dk_162 0 16 (dk_at dksX4_deals_2 13 rfl rfl)
theorem dX4_deals_64 : decode cX4_deals 64 = .ok (.aload_n 0, 1) := dk_42 (dk_at dksX4_deals_2 16 rfl rfl)
theorem dX4_deals_65 : decode cX4_deals 65 = .ok (.getfield 173, 3) := dk_180 0 173 (dk_at dksX4_deals_2 17 rfl rfl)
theorem dX4_deals_68 : decode cX4_deals 68 = .ok (.iload_n 2, 1) := dk_28 (dk_at dksX4_deals_2 20 rfl rfl)
theorem dX4_deals_69 : decode cX4_deals 69 = .ok (.iconst 0, 1) := dk_3 (dk_at dksX4_deals_2 21 rfl rfl)
theorem dX4_deals_70 : decode cX4_deals 70 = .ok (.iastore, 1) := dk_79 (dk_at dksX4_deals_2 22 rfl rfl)
theorem dX4_deals_71 : decode cX4_deals 71 = .ok (.iinc 2 1, 3) := dk_132 2 1 (dk_at dksX4_deals_3 0 rfl rfl)
theorem dX4_deals_74 : decode cX4_deals 74 = .ok (.goto (-15), 3) := dk_167 255 241 (dk_at dksX4_deals_3 3 rfl rfl)
theorem dX4_deals_77 : decode cX4_deals 77 = .ok (.iconst 0, 1) := dk_3 (dk_at dksX4_deals_3 6 rfl rfl)
theorem dX4_deals_78 : decode cX4_deals 78 = .ok (.istore_n 2, 1) := dk_61 (dk_at dksX4_deals_3 7 rfl rfl)
theorem dX4_deals_79 : decode cX4_deals 79 = .ok (.iload_n 2, 1) := dk_28 (dk_at dksX4_deals_3 8 rfl rfl)
theorem dX4_deals_80 : decode cX4_deals 80 = .ok (.iload_n 1, 1) := dk_27 (dk_at dksX4_deals_3 9 rfl rfl)
theorem dX4_deals_81 : decode cX4_deals 81 = .ok (.if_icmp .ge 43, 3) := dk_162 0 43 (dk_at dksX4_deals_3 10 rfl rfl)
theorem dX4_deals_84 : decode cX4_deals 84 = .ok (.aload_n 0, 1) := dk_42 (dk_at dksX4_deals_3 13 rfl rfl)
theorem dX4_deals_85 : decode cX4_deals 85 = .ok (.aload_n 0, 1) := dk_42 (dk_at dksX4_deals_3 14 rfl rfl)
theorem dX4_deals_86 : decode cX4_deals 86 = .ok (.getfield 149, 3) := dk_180 0 149 (dk_at dksX4_deals_3 15 rfl rfl)
theorem dX4_deals_89 : decode cX4_deals 89 = .ok (.invokevirtual 306, 3) := dk_182 1 50 (dk_at dksX4_deals_3 18 rfl rfl)
theorem dX4_deals_92 : decode cX4_deals 92 = .ok (.istore_n 3, 1) := dk_62 (dk_at dksX4_deals_3 21 rfl rfl)
theorem dX4_deals_93 : decode cX4_deals 93 = .ok (.aload_n 0, 1) := dk_42 (dk_at dksX4_deals_3 22 rfl rfl)
theorem dX4_deals_94 : decode cX4_deals 94 = .ok (.getfield 170, 3) := dk_180 0 170 (dk_at dksX4_deals_4 0 rfl rfl)
theorem dX4_deals_97 : decode cX4_deals 97 = .ok (.aload_n 0, 1) := dk_42 (dk_at dksX4_deals_4 3 rfl rfl)
theorem dX4_deals_98 : decode cX4_deals 98 = .ok (.getfield 140, 3) := dk_180 0 140 (dk_at dksX4_deals_4 4 rfl rfl)
theorem dX4_deals_101 : decode cX4_deals 101 = .ok (.iload_n 3, 1) := dk_29 (dk_at dksX4_deals_4 7 rfl rfl)
theorem dX4_deals_102 : decode cX4_deals 102 = .ok (.iaload, 1) := dk_46 (dk_at dksX4_deals_4 8 rfl rfl)
theorem dX4_deals_103 : decode cX4_deals 103 = .ok (.dup2, 1) := dk_92 (dk_at dksX4_deals_4 9 rfl rfl)
theorem dX4_deals_104 : decode cX4_deals 104 = .ok (.iaload, 1) := dk_46 (dk_at dksX4_deals_4 10 rfl rfl)
theorem dX4_deals_105 : decode cX4_deals 105 = .ok (.iconst 1, 1) := dk_4 (dk_at dksX4_deals_4 11 rfl rfl)
theorem dX4_deals_106 : decode cX4_deals 106 = .ok (.iadd, 1) := dk_96 (dk_at dksX4_deals_4 12 rfl rfl)
theorem dX4_deals_107 : decode cX4_deals 107 = .ok (.iastore, 1) := dk_79 (dk_at dksX4_deals_4 13 rfl rfl)
theorem dX4_deals_108 : decode cX4_deals 108 = .ok (.aload_n 0, 1) := dk_42 (dk_at dksX4_deals_4 14 rfl rfl)
theorem dX4_deals_109 : decode cX4_deals 109 = .ok (.getfield 173, 3) := dk_180 0 173 (dk_at dksX4_deals_4 15 rfl rfl)
theorem dX4_deals_112 : decode cX4_deals 112 = .ok (.iload_n 3, 1) := dk_29 (dk_at dksX4_deals_4 18 rfl rfl)
theorem dX4_deals_113 : decode cX4_deals 113 = .ok (.dup2, 1) := dk_92 (dk_at dksX4_deals_4 19 rfl rfl)
theorem dX4_deals_114 : decode cX4_deals 114 = .ok (.iaload, 1) := dk_46 (dk_at dksX4_deals_4 20 rfl rfl)
theorem dX4_deals_115 : decode cX4_deals 115 = .ok (.iconst 1, 1) := dk_4 (dk_at dksX4_deals_4 21 rfl rfl)
theorem dX4_deals_116 : decode cX4_deals 116 = .ok (.iadd, 1) := dk_96 (dk_at dksX4_deals_4 22 rfl rfl)
theorem dX4_deals_117 : decode cX4_deals 117 = .ok (.iastore, 1) := dk_79 (dk_at dksX4_deals_4 23 rfl rfl)
theorem dX4_deals_118 : decode cX4_deals 118 = .ok (.iinc 2 1, 3) := dk_132 2 1 (dk_at dksX4_deals_5 0 rfl rfl)
theorem dX4_deals_121 : decode cX4_deals 121 = .ok (.goto (-42), 3) := dk_167 255 214 (dk_at dksX4_deals_5 3 rfl rfl)
theorem dX4_deals_124 : decode cX4_deals 124 = .ok (.aload_n 0, 1) := dk_42 (dk_at dksX4_deals_5 6 rfl rfl)
theorem dX4_deals_125 : decode cX4_deals 125 = .ok (.iconst 0, 1) := dk_3 (dk_at dksX4_deals_5 7 rfl rfl)
theorem dX4_deals_126 : decode cX4_deals 126 = .ok (.putfield 11, 3) := dk_181 0 11 (dk_at dksX4_deals_5 8 rfl rfl)
theorem dX4_deals_129 : decode cX4_deals 129 = .ok (.iconst 1, 1) := dk_4 (dk_at dksX4_deals_5 11 rfl rfl)
theorem dX4_deals_130 : decode cX4_deals 130 = .ok (.istore_n 2, 1) := dk_61 (dk_at dksX4_deals_5 12 rfl rfl)
theorem dX4_deals_131 : decode cX4_deals 131 = .ok (.iload_n 2, 1) := dk_28 (dk_at dksX4_deals_5 13 rfl rfl)
theorem dX4_deals_132 : decode cX4_deals 132 = .ok (.iconst 4, 1) := dk_7 (dk_at dksX4_deals_5 14 rfl rfl)
theorem dX4_deals_133 : decode cX4_deals 133 = .ok (.if_icmp .ge 20, 3) := dk_162 0 20 (dk_at dksX4_deals_5 15 rfl rfl)
theorem dX4_deals_136 : decode cX4_deals 136 = .ok (.aload_n 0, 1) := dk_42 (dk_at dksX4_deals_5 18 rfl rfl)
theorem dX4_deals_137 : decode cX4_deals 137 = .ok (.aload_n 0, 1) := dk_42 (dk_at dksX4_deals_5 19 rfl rfl)
theorem dX4_deals_138 : decode cX4_deals 138 = .ok (.getfield 170, 3) := dk_180 0 170 (dk_at dksX4_deals_5 20 rfl rfl)
theorem dX4_deals_141 : decode cX4_deals 141 = .ok (.iload_n 2, 1) := dk_28 (dk_at dksX4_deals_5 23 rfl rfl)
theorem dX4_deals_142 : decode cX4_deals 142 = .ok (.iaload, 1) := dk_46 (dk_at dksX4_deals_6 0 rfl rfl)
theorem dX4_deals_143 : decode cX4_deals 143 = .ok (.i2l, 1) := dk_133 (dk_at dksX4_deals_6 1 rfl rfl)
theorem dX4_deals_144 : decode cX4_deals 144 = .ok (.invokevirtual 345, 3) := dk_182 1 89 (dk_at dksX4_deals_6 2 rfl rfl)
theorem dX4_deals_147 : decode cX4_deals 147 = .ok (.iinc 2 1, 3) := dk_132 2 1 (dk_at dksX4_deals_6 5 rfl rfl)
theorem dX4_deals_150 : decode cX4_deals 150 = .ok (.goto (-19), 3) := dk_167 255 237 (dk_at dksX4_deals_6 8 rfl rfl)
theorem dX4_deals_153 : decode cX4_deals 153 = .ok (.iconst 0, 1) := dk_3 (dk_at dksX4_deals_6 11 rfl rfl)
theorem dX4_deals_154 : decode cX4_deals 154 = .ok (.istore_n 2, 1) := dk_61 (dk_at dksX4_deals_6 12 rfl rfl)
theorem dX4_deals_155 : decode cX4_deals 155 = .ok (.iload_n 2, 1) := dk_28 (dk_at dksX4_deals_6 13 rfl rfl)
theorem dX4_deals_156 : decode cX4_deals 156 = .ok (.iconst 5, 1) := dk_8 (dk_at dksX4_deals_6 14 rfl rfl)
theorem dX4_deals_157 : decode cX4_deals 157 = .ok (.if_icmp .ge 20, 3) := dk_162 0 20 (dk_at dksX4_deals_6 15 rfl rfl)
theorem dX4_deals_160 : decode cX4_deals 160 = .ok (.aload_n 0, 1) := dk_42 (dk_at dksX4_deals_6 18 rfl rfl)
theorem dX4_deals_161 : decode cX4_deals 161 = .ok (.aload_n 0, 1) := dk_42 (dk_at dksX4_deals_6 19 rfl rfl)
theorem dX4_deals_162 : decode cX4_deals 162 = .ok (.getfield 173, 3) := dk_180 0 173 (dk_at dksX4_deals_6 20 rfl rfl)
theorem dX4_deals_165 : decode cX4_deals 165 = .ok (.iload_n 2, 1) := dk_28 (dk_at dksX4_deals_6 23 rfl rfl)
theorem dX4_deals_166 : decode cX4_deals 166 = .ok (.iaload, 1) := dk_46 (dk_at dksX4_deals_7 0 rfl rfl)
theorem dX4_deals_167 : decode cX4_deals 167 = .ok (.i2l, 1) := dk_133 (dk_at dksX4_deals_7 1 rfl rfl)
theorem dX4_deals_168 : decode cX4_deals 168 = .ok (.invokevirtual 345, 3) := dk_182 1 89 (dk_at dksX4_deals_7 2 rfl rfl)
theorem dX4_deals_171 : decode cX4_deals 171 = .ok (.iinc 2 1, 3) := dk_132 2 1 (dk_at dksX4_deals_7 5 rfl rfl)
theorem dX4_deals_174 : decode cX4_deals 174 = .ok (.goto (-19), 3) := dk_167 255 237 (dk_at dksX4_deals_7 8 rfl rfl)
theorem dX4_deals_177 : decode cX4_deals 177 = .ok (.aload_n 0, 1) := dk_42 (dk_at dksX4_deals_7 11 rfl rfl)
theorem dX4_deals_178 : decode cX4_deals 178 = .ok (.getfield 170, 3) := dk_180 0 170 (dk_at dksX4_deals_7 12 rfl rfl)
theorem dX4_deals_181 : decode cX4_deals 181 = .ok (.iconst 0, 1) := dk_3 (dk_at dksX4_deals_7 15 rfl rfl)
theorem dX4_deals_182 : decode cX4_deals 182 = .ok (.iaload, 1) := dk_46 (dk_at dksX4_deals_7 16 rfl rfl)
theorem dX4_deals_183 : decode cX4_deals 183 = .ok (.ireturn, 1) := dk_172 (dk_at dksX4_deals_7 17 rfl rfl)
abbrev cX4_when : ByteArray := prog_13_method_94_code
def yX4_when : MethodName := ⟨RX4, "when", "(II)I"⟩
def dkwX4_when_7 : List UInt8 := [182, 1, 89, 29, 172, 132, 4, 1, 167, 255, 183, 132, 3, 1, 167, 255, 151, 16, 254, 172]
abbrev dktX4_when_7 : List UInt8 := dkwX4_when_7 ++ []
def dkwX4_when_6 : List UInt8 := [42, 180, 0, 149, 21, 5, 4, 96, 46, 133, 182, 1, 89, 42, 42, 180, 0, 149, 21, 5, 5, 96, 46, 133]
abbrev dktX4_when_6 : List UInt8 := dkwX4_when_6 ++ dktX4_when_7
def dkwX4_when_5 : List UInt8 := [184, 0, 249, 54, 5, 42, 180, 0, 149, 21, 5, 3, 96, 46, 28, 160, 0, 38, 42, 3, 181, 0, 11, 42]
abbrev dktX4_when_5 : List UInt8 := dkwX4_when_5 ++ dktX4_when_6
def dkwX4_when_4 : List UInt8 := [16, 6, 184, 0, 220, 54, 4, 21, 4, 42, 180, 0, 149, 27, 8, 184, 0, 220, 162, 0, 65, 27, 21, 4]
abbrev dktX4_when_4 : List UInt8 := dkwX4_when_4 ++ dktX4_when_5
def dkwX4_when_3 : List UInt8 := [182, 1, 153, 4, 62, 29, 16, 99, 163, 0, 105, 42, 42, 180, 0, 149, 182, 1, 96, 42, 180, 0, 149, 27]
abbrev dktX4_when_3 : List UInt8 := dkwX4_when_3 ++ dktX4_when_4
def dkwX4_when_2 : List UInt8 := [184, 0, 255, 156, 0, 18, 42, 180, 0, 146, 27, 28, 184, 1, 2, 156, 0, 6, 16, 253, 172, 42]
abbrev dktX4_when_2 : List UInt8 := dkwX4_when_2 ++ dktX4_when_3
def dkwX4_when_1 : List UInt8 := [154, 0, 5, 2, 172, 42, 180, 0, 146, 27, 28, 184, 0, 252, 156, 0, 30, 42, 180, 0, 146, 27, 28]
abbrev dktX4_when_1 : List UInt8 := dkwX4_when_1 ++ dktX4_when_2
def dkwX4_when_0 : List UInt8 := [42, 3, 181, 0, 3, 42, 27, 182, 0, 212, 153, 0, 15, 28, 133, 9, 20, 1, 26, 184, 0, 21]
abbrev dktX4_when_0 : List UInt8 := dkwX4_when_0 ++ dktX4_when_1
theorem dksX4_when_0 : cX4_when.data.toList.drop 0 = dktX4_when_0 := by decide +kernel
theorem dksX4_when_1 : cX4_when.data.toList.drop 22 = dktX4_when_1 := dk_seg dksX4_when_0 22 rfl rfl
theorem dksX4_when_2 : cX4_when.data.toList.drop 45 = dktX4_when_2 := dk_seg dksX4_when_1 23 rfl rfl
theorem dksX4_when_3 : cX4_when.data.toList.drop 67 = dktX4_when_3 := dk_seg dksX4_when_2 22 rfl rfl
theorem dksX4_when_4 : cX4_when.data.toList.drop 91 = dktX4_when_4 := dk_seg dksX4_when_3 24 rfl rfl
theorem dksX4_when_5 : cX4_when.data.toList.drop 115 = dktX4_when_5 := dk_seg dksX4_when_4 24 rfl rfl
theorem dksX4_when_6 : cX4_when.data.toList.drop 139 = dktX4_when_6 := dk_seg dksX4_when_5 24 rfl rfl
theorem dksX4_when_7 : cX4_when.data.toList.drop 163 = dktX4_when_7 := dk_seg dksX4_when_6 24 rfl rfl
theorem dX4_when_0 : decode cX4_when 0 = .ok (.aload_n 0, 1) := dk_42 (dk_at dksX4_when_0 0 rfl rfl)
theorem dX4_when_1 : decode cX4_when 1 = .ok (.iconst 0, 1) := dk_3 (dk_at dksX4_when_0 1 rfl rfl)
theorem dX4_when_2 : decode cX4_when 2 = .ok (.putfield 3, 3) := dk_181 0 3 (dk_at dksX4_when_0 2 rfl rfl)
theorem dX4_when_5 : decode cX4_when 5 = .ok (.aload_n 0, 1) := dk_42 (dk_at dksX4_when_0 5 rfl rfl)
theorem dX4_when_6 : decode cX4_when 6 = .ok (.iload_n 1, 1) := dk_27 (dk_at dksX4_when_0 6 rfl rfl)
theorem dX4_when_7 : decode cX4_when 7 = .ok (.invokevirtual 212, 3) := dk_182 0 212 (dk_at dksX4_when_0 7 rfl rfl)
theorem dX4_when_10 : decode cX4_when 10 = .ok (.ifCond .eq 15, 3) := dk_153 0 15 (dk_at dksX4_when_0 10 rfl rfl)
theorem dX4_when_13 : decode cX4_when 13 = .ok (.iload_n 2, 1) := dk_28 (dk_at dksX4_when_0 13 rfl rfl)
theorem dX4_when_14 : decode cX4_when 14 = .ok (.i2l, 1) := dk_133 (dk_at dksX4_when_0 14 rfl rfl)
theorem dX4_when_15 : decode cX4_when 15 = .ok (.lconst 0, 1) := dk_9 (dk_at dksX4_when_0 15 rfl rfl)
theorem dX4_when_16 : decode cX4_when 16 = .ok (.ldc2_w 282, 3) := dk_20 1 26 (dk_at dksX4_when_0 16 rfl rfl)
theorem dX4_when_19 : decode cX4_when 19 = .ok (.invokestatic 21, 3) := dk_184 0 21 (dk_at dksX4_when_0 19 rfl rfl)
theorem dX4_when_22 : decode cX4_when 22 = .ok (.ifCond .ne 5, 3) := dk_154 0 5 (dk_at dksX4_when_1 0 rfl rfl)
theorem dX4_when_25 : decode cX4_when 25 = .ok (.iconst (-1), 1) := dk_2 (dk_at dksX4_when_1 3 rfl rfl)
theorem dX4_when_26 : decode cX4_when 26 = .ok (.ireturn, 1) := dk_172 (dk_at dksX4_when_1 4 rfl rfl)
theorem dX4_when_27 : decode cX4_when 27 = .ok (.aload_n 0, 1) := dk_42 (dk_at dksX4_when_1 5 rfl rfl)
theorem dX4_when_28 : decode cX4_when 28 = .ok (.getfield 146, 3) := dk_180 0 146 (dk_at dksX4_when_1 6 rfl rfl)
theorem dX4_when_31 : decode cX4_when 31 = .ok (.iload_n 1, 1) := dk_27 (dk_at dksX4_when_1 9 rfl rfl)
theorem dX4_when_32 : decode cX4_when 32 = .ok (.iload_n 2, 1) := dk_28 (dk_at dksX4_when_1 10 rfl rfl)
theorem dX4_when_33 : decode cX4_when 33 = .ok (.invokestatic 252, 3) := dk_184 0 252 (dk_at dksX4_when_1 11 rfl rfl)
theorem dX4_when_36 : decode cX4_when 36 = .ok (.ifCond .ge 30, 3) := dk_156 0 30 (dk_at dksX4_when_1 14 rfl rfl)
theorem dX4_when_39 : decode cX4_when 39 = .ok (.aload_n 0, 1) := dk_42 (dk_at dksX4_when_1 17 rfl rfl)
theorem dX4_when_40 : decode cX4_when 40 = .ok (.getfield 146, 3) := dk_180 0 146 (dk_at dksX4_when_1 18 rfl rfl)
theorem dX4_when_43 : decode cX4_when 43 = .ok (.iload_n 1, 1) := dk_27 (dk_at dksX4_when_1 21 rfl rfl)
theorem dX4_when_44 : decode cX4_when 44 = .ok (.iload_n 2, 1) := dk_28 (dk_at dksX4_when_1 22 rfl rfl)
theorem dX4_when_45 : decode cX4_when 45 = .ok (.invokestatic 255, 3) := dk_184 0 255 (dk_at dksX4_when_2 0 rfl rfl)
theorem dX4_when_48 : decode cX4_when 48 = .ok (.ifCond .ge 18, 3) := dk_156 0 18 (dk_at dksX4_when_2 3 rfl rfl)
theorem dX4_when_51 : decode cX4_when 51 = .ok (.aload_n 0, 1) := dk_42 (dk_at dksX4_when_2 6 rfl rfl)
theorem dX4_when_52 : decode cX4_when 52 = .ok (.getfield 146, 3) := dk_180 0 146 (dk_at dksX4_when_2 7 rfl rfl)
theorem dX4_when_55 : decode cX4_when 55 = .ok (.iload_n 1, 1) := dk_27 (dk_at dksX4_when_2 10 rfl rfl)
theorem dX4_when_56 : decode cX4_when 56 = .ok (.iload_n 2, 1) := dk_28 (dk_at dksX4_when_2 11 rfl rfl)
theorem dX4_when_57 : decode cX4_when 57 = .ok (.invokestatic 258, 3) := dk_184 1 2 (dk_at dksX4_when_2 12 rfl rfl)
theorem dX4_when_60 : decode cX4_when 60 = .ok (.ifCond .ge 6, 3) := dk_156 0 6 (dk_at dksX4_when_2 15 rfl rfl)
theorem dX4_when_63 : decode cX4_when 63 = .ok (.bipush (-3), 2) := dk_16 253 (dk_at dksX4_when_2 18 rfl rfl)
theorem dX4_when_65 : decode cX4_when 65 = .ok (.ireturn, 1) := dk_172 (dk_at dksX4_when_2 20 rfl rfl)
theorem dX4_when_66 : decode cX4_when 66 = .ok (.aload_n 0, 1) := dk_42 (dk_at dksX4_when_2 21 rfl rfl)
theorem dX4_when_67 : decode cX4_when 67 = .ok (.invokevirtual 409, 3) := dk_182 1 153 (dk_at dksX4_when_3 0 rfl rfl)
theorem dX4_when_70 : decode cX4_when 70 = .ok (.iconst 1, 1) := dk_4 (dk_at dksX4_when_3 3 rfl rfl)
theorem dX4_when_71 : decode cX4_when 71 = .ok (.istore_n 3, 1) := dk_62 (dk_at dksX4_when_3 4 rfl rfl)
theorem dX4_when_72 : decode cX4_when 72 = .ok (.iload_n 3, 1) := dk_29 (dk_at dksX4_when_3 5 rfl rfl)
theorem dX4_when_73 : decode cX4_when 73 = .ok (.bipush 99, 2) := dk_16 99 (dk_at dksX4_when_3 6 rfl rfl)
theorem dX4_when_75 : decode cX4_when 75 = .ok (.if_icmp .gt 105, 3) := dk_163 0 105 (dk_at dksX4_when_3 8 rfl rfl)
theorem dX4_when_78 : decode cX4_when 78 = .ok (.aload_n 0, 1) := dk_42 (dk_at dksX4_when_3 11 rfl rfl)
theorem dX4_when_79 : decode cX4_when 79 = .ok (.aload_n 0, 1) := dk_42 (dk_at dksX4_when_3 12 rfl rfl)
theorem dX4_when_80 : decode cX4_when 80 = .ok (.getfield 149, 3) := dk_180 0 149 (dk_at dksX4_when_3 13 rfl rfl)
theorem dX4_when_83 : decode cX4_when 83 = .ok (.invokevirtual 352, 3) := dk_182 1 96 (dk_at dksX4_when_3 16 rfl rfl)
theorem dX4_when_86 : decode cX4_when 86 = .ok (.aload_n 0, 1) := dk_42 (dk_at dksX4_when_3 19 rfl rfl)
theorem dX4_when_87 : decode cX4_when 87 = .ok (.getfield 149, 3) := dk_180 0 149 (dk_at dksX4_when_3 20 rfl rfl)
theorem dX4_when_90 : decode cX4_when 90 = .ok (.iload_n 1, 1) := dk_27 (dk_at dksX4_when_3 23 rfl rfl)
theorem dX4_when_91 : decode cX4_when 91 = .ok (.bipush 6, 2) := dk_16 6 (dk_at dksX4_when_4 0 rfl rfl)
theorem dX4_when_93 : decode cX4_when 93 = .ok (.invokestatic 220, 3) := dk_184 0 220 (dk_at dksX4_when_4 2 rfl rfl)
theorem dX4_when_96 : decode cX4_when 96 = .ok (.istore 4, 2) := dk_54 4 (dk_at dksX4_when_4 5 rfl rfl)
theorem dX4_when_98 : decode cX4_when 98 = .ok (.iload 4, 2) := dk_21 4 (dk_at dksX4_when_4 7 rfl rfl)
theorem dX4_when_100 : decode cX4_when 100 = .ok (.aload_n 0, 1) := dk_42 (dk_at dksX4_when_4 9 rfl rfl)
theorem dX4_when_101 : decode cX4_when 101 = .ok (.getfield 149, 3) := dk_180 0 149 (dk_at dksX4_when_4 10 rfl rfl)
theorem dX4_when_104 : decode cX4_when 104 = .ok (.iload_n 1, 1) := dk_27 (dk_at dksX4_when_4 13 rfl rfl)
theorem dX4_when_105 : decode cX4_when 105 = .ok (.iconst 5, 1) := dk_8 (dk_at dksX4_when_4 14 rfl rfl)
theorem dX4_when_106 : decode cX4_when 106 = .ok (.invokestatic 220, 3) := dk_184 0 220 (dk_at dksX4_when_4 15 rfl rfl)
theorem dX4_when_109 : decode cX4_when 109 = .ok (.if_icmp .ge 65, 3) := dk_162 0 65 (dk_at dksX4_when_4 18 rfl rfl)
theorem dX4_when_112 : decode cX4_when 112 = .ok (.iload_n 1, 1) := dk_27 (dk_at dksX4_when_4 21 rfl rfl)
theorem dX4_when_113 : decode cX4_when 113 = .ok (.iload 4, 2) := dk_21 4 (dk_at dksX4_when_4 22 rfl rfl)
theorem dX4_when_115 : decode cX4_when 115 = .ok (.invokestatic 249, 3) := dk_184 0 249 (dk_at dksX4_when_5 0 rfl rfl)
theorem dX4_when_118 : decode cX4_when 118 = .ok (.istore 5, 2) := dk_54 5 (dk_at dksX4_when_5 3 rfl rfl)
theorem dX4_when_120 : decode cX4_when 120 = .ok (.aload_n 0, 1) := dk_42 (dk_at dksX4_when_5 5 rfl rfl)
theorem dX4_when_121 : decode cX4_when 121 = .ok (.getfield 149, 3) := dk_180 0 149 (dk_at dksX4_when_5 6 rfl rfl)
theorem dX4_when_124 : decode cX4_when 124 = .ok (.iload 5, 2) := dk_21 5 (dk_at dksX4_when_5 9 rfl rfl)
theorem dX4_when_126 : decode cX4_when 126 = .ok (.iconst 0, 1) := dk_3 (dk_at dksX4_when_5 11 rfl rfl)
theorem dX4_when_127 : decode cX4_when 127 = .ok (.iadd, 1) := dk_96 (dk_at dksX4_when_5 12 rfl rfl)
theorem dX4_when_128 : decode cX4_when 128 = .ok (.iaload, 1) := dk_46 (dk_at dksX4_when_5 13 rfl rfl)
theorem dX4_when_129 : decode cX4_when 129 = .ok (.iload_n 2, 1) := dk_28 (dk_at dksX4_when_5 14 rfl rfl)
theorem dX4_when_130 : decode cX4_when 130 = .ok (.if_icmp .ne 38, 3) := dk_160 0 38 (dk_at dksX4_when_5 15 rfl rfl)
theorem dX4_when_133 : decode cX4_when 133 = .ok (.aload_n 0, 1) := dk_42 (dk_at dksX4_when_5 18 rfl rfl)
theorem dX4_when_134 : decode cX4_when 134 = .ok (.iconst 0, 1) := dk_3 (dk_at dksX4_when_5 19 rfl rfl)
theorem dX4_when_135 : decode cX4_when 135 = .ok (.putfield 11, 3) := dk_181 0 11 (dk_at dksX4_when_5 20 rfl rfl)
theorem dX4_when_138 : decode cX4_when 138 = .ok (.aload_n 0, 1) := dk_42 (dk_at dksX4_when_5 23 rfl rfl)
theorem dX4_when_139 : decode cX4_when 139 = .ok (.aload_n 0, 1) := dk_42 (dk_at dksX4_when_6 0 rfl rfl)
theorem dX4_when_140 : decode cX4_when 140 = .ok (.getfield 149, 3) := dk_180 0 149 (dk_at dksX4_when_6 1 rfl rfl)
theorem dX4_when_143 : decode cX4_when 143 = .ok (.iload 5, 2) := dk_21 5 (dk_at dksX4_when_6 4 rfl rfl)
theorem dX4_when_145 : decode cX4_when 145 = .ok (.iconst 1, 1) := dk_4 (dk_at dksX4_when_6 6 rfl rfl)
theorem dX4_when_146 : decode cX4_when 146 = .ok (.iadd, 1) := dk_96 (dk_at dksX4_when_6 7 rfl rfl)
theorem dX4_when_147 : decode cX4_when 147 = .ok (.iaload, 1) := dk_46 (dk_at dksX4_when_6 8 rfl rfl)
theorem dX4_when_148 : decode cX4_when 148 = .ok (.i2l, 1) := dk_133 (dk_at dksX4_when_6 9 rfl rfl)
theorem dX4_when_149 : decode cX4_when 149 = .ok (.invokevirtual 345, 3) := dk_182 1 89 (dk_at dksX4_when_6 10 rfl rfl)
theorem dX4_when_152 : decode cX4_when 152 = .ok (.aload_n 0, 1) := dk_42 (dk_at dksX4_when_6 13 rfl rfl)
theorem dX4_when_153 : decode cX4_when 153 = .ok (.aload_n 0, 1) := dk_42 (dk_at dksX4_when_6 14 rfl rfl)
theorem dX4_when_154 : decode cX4_when 154 = .ok (.getfield 149, 3) := dk_180 0 149 (dk_at dksX4_when_6 15 rfl rfl)
theorem dX4_when_157 : decode cX4_when 157 = .ok (.iload 5, 2) := dk_21 5 (dk_at dksX4_when_6 18 rfl rfl)
theorem dX4_when_159 : decode cX4_when 159 = .ok (.iconst 2, 1) := dk_5 (dk_at dksX4_when_6 20 rfl rfl)
theorem dX4_when_160 : decode cX4_when 160 = .ok (.iadd, 1) := dk_96 (dk_at dksX4_when_6 21 rfl rfl)
theorem dX4_when_161 : decode cX4_when 161 = .ok (.iaload, 1) := dk_46 (dk_at dksX4_when_6 22 rfl rfl)
theorem dX4_when_162 : decode cX4_when 162 = .ok (.i2l, 1) := dk_133 (dk_at dksX4_when_6 23 rfl rfl)
theorem dX4_when_163 : decode cX4_when 163 = .ok (.invokevirtual 345, 3) := dk_182 1 89 (dk_at dksX4_when_7 0 rfl rfl)
theorem dX4_when_166 : decode cX4_when 166 = .ok (.iload_n 3, 1) := dk_29 (dk_at dksX4_when_7 3 rfl rfl)
theorem dX4_when_167 : decode cX4_when 167 = .ok (.ireturn, 1) := dk_172 (dk_at dksX4_when_7 4 rfl rfl)
theorem dX4_when_168 : decode cX4_when 168 = .ok (.iinc 4 1, 3) := dk_132 4 1 (dk_at dksX4_when_7 5 rfl rfl)
theorem dX4_when_171 : decode cX4_when 171 = .ok (.goto (-73), 3) := dk_167 255 183 (dk_at dksX4_when_7 8 rfl rfl)
theorem dX4_when_174 : decode cX4_when 174 = .ok (.iinc 3 1, 3) := dk_132 3 1 (dk_at dksX4_when_7 11 rfl rfl)
theorem dX4_when_177 : decode cX4_when 177 = .ok (.goto (-105), 3) := dk_167 255 151 (dk_at dksX4_when_7 14 rfl rfl)
theorem dX4_when_180 : decode cX4_when 180 = .ok (.bipush (-2), 2) := dk_16 254 (dk_at dksX4_when_7 17 rfl rfl)
theorem dX4_when_182 : decode cX4_when 182 = .ok (.ireturn, 1) := dk_172 (dk_at dksX4_when_7 19 rfl rfl)
abbrev cX4_drains : ByteArray := prog_13_method_98_code
def yX4_drains : MethodName := ⟨RX4, "drains", "()I"⟩
def dkwX4_drains_2 : List UInt8 := [182, 1, 89, 27, 172]
abbrev dktX4_drains_2 : List UInt8 := dkwX4_drains_2 ++ []
def dkwX4_drains_1 : List UInt8 := [172, 42, 3, 181, 0, 11, 42, 42, 180, 1, 156, 133, 182, 1, 89, 42, 42, 180, 0, 149, 184, 0, 229, 133]
abbrev dktX4_drains_1 : List UInt8 := dkwX4_drains_1 ++ dktX4_drains_2
def dkwX4_drains_0 : List UInt8 := [42, 3, 181, 0, 3, 42, 182, 1, 153, 42, 42, 180, 0, 149, 182, 1, 165, 60, 27, 156, 0, 6, 16, 254]
abbrev dktX4_drains_0 : List UInt8 := dkwX4_drains_0 ++ dktX4_drains_1
theorem dksX4_drains_0 : cX4_drains.data.toList.drop 0 = dktX4_drains_0 := by decide +kernel
theorem dksX4_drains_1 : cX4_drains.data.toList.drop 24 = dktX4_drains_1 := dk_seg dksX4_drains_0 24 rfl rfl
theorem dksX4_drains_2 : cX4_drains.data.toList.drop 48 = dktX4_drains_2 := dk_seg dksX4_drains_1 24 rfl rfl
theorem dX4_drains_0 : decode cX4_drains 0 = .ok (.aload_n 0, 1) := dk_42 (dk_at dksX4_drains_0 0 rfl rfl)
theorem dX4_drains_1 : decode cX4_drains 1 = .ok (.iconst 0, 1) := dk_3 (dk_at dksX4_drains_0 1 rfl rfl)
theorem dX4_drains_2 : decode cX4_drains 2 = .ok (.putfield 3, 3) := dk_181 0 3 (dk_at dksX4_drains_0 2 rfl rfl)
theorem dX4_drains_5 : decode cX4_drains 5 = .ok (.aload_n 0, 1) := dk_42 (dk_at dksX4_drains_0 5 rfl rfl)
theorem dX4_drains_6 : decode cX4_drains 6 = .ok (.invokevirtual 409, 3) := dk_182 1 153 (dk_at dksX4_drains_0 6 rfl rfl)
theorem dX4_drains_9 : decode cX4_drains 9 = .ok (.aload_n 0, 1) := dk_42 (dk_at dksX4_drains_0 9 rfl rfl)
theorem dX4_drains_10 : decode cX4_drains 10 = .ok (.aload_n 0, 1) := dk_42 (dk_at dksX4_drains_0 10 rfl rfl)
theorem dX4_drains_11 : decode cX4_drains 11 = .ok (.getfield 149, 3) := dk_180 0 149 (dk_at dksX4_drains_0 11 rfl rfl)
theorem dX4_drains_14 : decode cX4_drains 14 = .ok (.invokevirtual 421, 3) := dk_182 1 165 (dk_at dksX4_drains_0 14 rfl rfl)
theorem dX4_drains_17 : decode cX4_drains 17 = .ok (.istore_n 1, 1) := dk_60 (dk_at dksX4_drains_0 17 rfl rfl)
theorem dX4_drains_18 : decode cX4_drains 18 = .ok (.iload_n 1, 1) := dk_27 (dk_at dksX4_drains_0 18 rfl rfl)
theorem dX4_drains_19 : decode cX4_drains 19 = .ok (.ifCond .ge 6, 3) := dk_156 0 6 (dk_at dksX4_drains_0 19 rfl rfl)
theorem dX4_drains_22 : decode cX4_drains 22 = .ok (.bipush (-2), 2) := dk_16 254 (dk_at dksX4_drains_0 22 rfl rfl)
theorem dX4_drains_24 : decode cX4_drains 24 = .ok (.ireturn, 1) := dk_172 (dk_at dksX4_drains_1 0 rfl rfl)
theorem dX4_drains_25 : decode cX4_drains 25 = .ok (.aload_n 0, 1) := dk_42 (dk_at dksX4_drains_1 1 rfl rfl)
theorem dX4_drains_26 : decode cX4_drains 26 = .ok (.iconst 0, 1) := dk_3 (dk_at dksX4_drains_1 2 rfl rfl)
theorem dX4_drains_27 : decode cX4_drains 27 = .ok (.putfield 11, 3) := dk_181 0 11 (dk_at dksX4_drains_1 3 rfl rfl)
theorem dX4_drains_30 : decode cX4_drains 30 = .ok (.aload_n 0, 1) := dk_42 (dk_at dksX4_drains_1 6 rfl rfl)
theorem dX4_drains_31 : decode cX4_drains 31 = .ok (.aload_n 0, 1) := dk_42 (dk_at dksX4_drains_1 7 rfl rfl)
theorem dX4_drains_32 : decode cX4_drains 32 = .ok (.getfield 412, 3) := dk_180 1 156 (dk_at dksX4_drains_1 8 rfl rfl)
theorem dX4_drains_35 : decode cX4_drains 35 = .ok (.i2l, 1) := dk_133 (dk_at dksX4_drains_1 11 rfl rfl)
theorem dX4_drains_36 : decode cX4_drains 36 = .ok (.invokevirtual 345, 3) := dk_182 1 89 (dk_at dksX4_drains_1 12 rfl rfl)
theorem dX4_drains_39 : decode cX4_drains 39 = .ok (.aload_n 0, 1) := dk_42 (dk_at dksX4_drains_1 15 rfl rfl)
theorem dX4_drains_40 : decode cX4_drains 40 = .ok (.aload_n 0, 1) := dk_42 (dk_at dksX4_drains_1 16 rfl rfl)
theorem dX4_drains_41 : decode cX4_drains 41 = .ok (.getfield 149, 3) := dk_180 0 149 (dk_at dksX4_drains_1 17 rfl rfl)
theorem dX4_drains_44 : decode cX4_drains 44 = .ok (.invokestatic 229, 3) := dk_184 0 229 (dk_at dksX4_drains_1 20 rfl rfl)
theorem dX4_drains_47 : decode cX4_drains 47 = .ok (.i2l, 1) := dk_133 (dk_at dksX4_drains_1 23 rfl rfl)
theorem dX4_drains_48 : decode cX4_drains 48 = .ok (.invokevirtual 345, 3) := dk_182 1 89 (dk_at dksX4_drains_2 0 rfl rfl)
theorem dX4_drains_51 : decode cX4_drains 51 = .ok (.iload_n 1, 1) := dk_27 (dk_at dksX4_drains_2 3 rfl rfl)
theorem dX4_drains_52 : decode cX4_drains 52 = .ok (.ireturn, 1) := dk_172 (dk_at dksX4_drains_2 4 rfl rfl)
abbrev cX4_drainsOf : ByteArray := prog_13_method_97_code
def yX4_drainsOf : MethodName := ⟨RX4, "drainsOf", "([I)I"⟩
def dkwX4_drainsOf_1 : List UInt8 := [43, 182, 1, 162, 28, 16, 99, 162, 0, 8, 42, 43, 182, 1, 96, 132, 2, 1, 167, 255, 221, 16, 254, 172]
abbrev dktX4_drainsOf_1 : List UInt8 := dkwX4_drainsOf_1 ++ []
def dkwX4_drainsOf_0 : List UInt8 := [42, 3, 181, 1, 156, 3, 61, 28, 16, 99, 163, 0, 35, 42, 43, 182, 1, 159, 153, 0, 5, 28, 172, 42]
abbrev dktX4_drainsOf_0 : List UInt8 := dkwX4_drainsOf_0 ++ dktX4_drainsOf_1
theorem dksX4_drainsOf_0 : cX4_drainsOf.data.toList.drop 0 = dktX4_drainsOf_0 := by decide +kernel
theorem dksX4_drainsOf_1 : cX4_drainsOf.data.toList.drop 24 = dktX4_drainsOf_1 := dk_seg dksX4_drainsOf_0 24 rfl rfl
theorem dX4_drainsOf_0 : decode cX4_drainsOf 0 = .ok (.aload_n 0, 1) := dk_42 (dk_at dksX4_drainsOf_0 0 rfl rfl)
theorem dX4_drainsOf_1 : decode cX4_drainsOf 1 = .ok (.iconst 0, 1) := dk_3 (dk_at dksX4_drainsOf_0 1 rfl rfl)
theorem dX4_drainsOf_2 : decode cX4_drainsOf 2 = .ok (.putfield 412, 3) := dk_181 1 156 (dk_at dksX4_drainsOf_0 2 rfl rfl)
theorem dX4_drainsOf_5 : decode cX4_drainsOf 5 = .ok (.iconst 0, 1) := dk_3 (dk_at dksX4_drainsOf_0 5 rfl rfl)
theorem dX4_drainsOf_6 : decode cX4_drainsOf 6 = .ok (.istore_n 2, 1) := dk_61 (dk_at dksX4_drainsOf_0 6 rfl rfl)
theorem dX4_drainsOf_7 : decode cX4_drainsOf 7 = .ok (.iload_n 2, 1) := dk_28 (dk_at dksX4_drainsOf_0 7 rfl rfl)
theorem dX4_drainsOf_8 : decode cX4_drainsOf 8 = .ok (.bipush 99, 2) := dk_16 99 (dk_at dksX4_drainsOf_0 8 rfl rfl)
theorem dX4_drainsOf_10 : decode cX4_drainsOf 10 = .ok (.if_icmp .gt 35, 3) := dk_163 0 35 (dk_at dksX4_drainsOf_0 10 rfl rfl)
theorem dX4_drainsOf_13 : decode cX4_drainsOf 13 = .ok (.aload_n 0, 1) := dk_42 (dk_at dksX4_drainsOf_0 13 rfl rfl)
theorem dX4_drainsOf_14 : decode cX4_drainsOf 14 = .ok (.aload_n 1, 1) := dk_43 (dk_at dksX4_drainsOf_0 14 rfl rfl)
theorem dX4_drainsOf_15 : decode cX4_drainsOf 15 = .ok (.invokevirtual 415, 3) := dk_182 1 159 (dk_at dksX4_drainsOf_0 15 rfl rfl)
theorem dX4_drainsOf_18 : decode cX4_drainsOf 18 = .ok (.ifCond .eq 5, 3) := dk_153 0 5 (dk_at dksX4_drainsOf_0 18 rfl rfl)
theorem dX4_drainsOf_21 : decode cX4_drainsOf 21 = .ok (.iload_n 2, 1) := dk_28 (dk_at dksX4_drainsOf_0 21 rfl rfl)
theorem dX4_drainsOf_22 : decode cX4_drainsOf 22 = .ok (.ireturn, 1) := dk_172 (dk_at dksX4_drainsOf_0 22 rfl rfl)
theorem dX4_drainsOf_23 : decode cX4_drainsOf 23 = .ok (.aload_n 0, 1) := dk_42 (dk_at dksX4_drainsOf_0 23 rfl rfl)
theorem dX4_drainsOf_24 : decode cX4_drainsOf 24 = .ok (.aload_n 1, 1) := dk_43 (dk_at dksX4_drainsOf_1 0 rfl rfl)
theorem dX4_drainsOf_25 : decode cX4_drainsOf 25 = .ok (.invokevirtual 418, 3) := dk_182 1 162 (dk_at dksX4_drainsOf_1 1 rfl rfl)
theorem dX4_drainsOf_28 : decode cX4_drainsOf 28 = .ok (.iload_n 2, 1) := dk_28 (dk_at dksX4_drainsOf_1 4 rfl rfl)
theorem dX4_drainsOf_29 : decode cX4_drainsOf 29 = .ok (.bipush 99, 2) := dk_16 99 (dk_at dksX4_drainsOf_1 5 rfl rfl)
theorem dX4_drainsOf_31 : decode cX4_drainsOf 31 = .ok (.if_icmp .ge 8, 3) := dk_162 0 8 (dk_at dksX4_drainsOf_1 7 rfl rfl)
theorem dX4_drainsOf_34 : decode cX4_drainsOf 34 = .ok (.aload_n 0, 1) := dk_42 (dk_at dksX4_drainsOf_1 10 rfl rfl)
theorem dX4_drainsOf_35 : decode cX4_drainsOf 35 = .ok (.aload_n 1, 1) := dk_43 (dk_at dksX4_drainsOf_1 11 rfl rfl)
theorem dX4_drainsOf_36 : decode cX4_drainsOf 36 = .ok (.invokevirtual 352, 3) := dk_182 1 96 (dk_at dksX4_drainsOf_1 12 rfl rfl)
theorem dX4_drainsOf_39 : decode cX4_drainsOf 39 = .ok (.iinc 2 1, 3) := dk_132 2 1 (dk_at dksX4_drainsOf_1 15 rfl rfl)
theorem dX4_drainsOf_42 : decode cX4_drainsOf 42 = .ok (.goto (-35), 3) := dk_167 255 221 (dk_at dksX4_drainsOf_1 18 rfl rfl)
theorem dX4_drainsOf_45 : decode cX4_drainsOf 45 = .ok (.bipush (-2), 2) := dk_16 254 (dk_at dksX4_drainsOf_1 21 rfl rfl)
theorem dX4_drainsOf_47 : decode cX4_drainsOf 47 = .ok (.ireturn, 1) := dk_172 (dk_at dksX4_drainsOf_1 23 rfl rfl)
abbrev cX4_isDrained : ByteArray := prog_13_method_95_code
def yX4_isDrained : MethodName := ⟨RX4, "isDrained", "([I)Z"⟩
def dkwX4_isDrained_2 : List UInt8 := [160, 0, 7, 4, 167, 0, 4, 3, 61, 132, 3, 1, 167, 255, 220, 28, 172]
abbrev dktX4_isDrained_2 : List UInt8 := dkwX4_isDrained_2 ++ []
def dkwX4_isDrained_1 : List UInt8 := [29, 42, 180, 0, 198, 162, 0, 34, 28, 153, 0, 22, 43, 29, 4, 184, 0, 220, 43, 29, 6, 184, 0, 220]
abbrev dktX4_isDrained_1 : List UInt8 := dkwX4_isDrained_1 ++ dktX4_isDrained_2
def dkwX4_isDrained_0 : List UInt8 := [43, 17, 1, 237, 46, 154, 0, 15, 43, 17, 3, 46, 46, 154, 0, 7, 4, 167, 0, 4, 3, 61, 3, 62]
abbrev dktX4_isDrained_0 : List UInt8 := dkwX4_isDrained_0 ++ dktX4_isDrained_1
theorem dksX4_isDrained_0 : cX4_isDrained.data.toList.drop 0 = dktX4_isDrained_0 := by decide +kernel
theorem dksX4_isDrained_1 : cX4_isDrained.data.toList.drop 24 = dktX4_isDrained_1 := dk_seg dksX4_isDrained_0 24 rfl rfl
theorem dksX4_isDrained_2 : cX4_isDrained.data.toList.drop 48 = dktX4_isDrained_2 := dk_seg dksX4_isDrained_1 24 rfl rfl
theorem dX4_isDrained_0 : decode cX4_isDrained 0 = .ok (.aload_n 1, 1) := dk_43 (dk_at dksX4_isDrained_0 0 rfl rfl)
theorem dX4_isDrained_1 : decode cX4_isDrained 1 = .ok (.sipush 493, 3) := dk_17 1 237 (dk_at dksX4_isDrained_0 1 rfl rfl)
theorem dX4_isDrained_4 : decode cX4_isDrained 4 = .ok (.iaload, 1) := dk_46 (dk_at dksX4_isDrained_0 4 rfl rfl)
theorem dX4_isDrained_5 : decode cX4_isDrained 5 = .ok (.ifCond .ne 15, 3) := dk_154 0 15 (dk_at dksX4_isDrained_0 5 rfl rfl)
theorem dX4_isDrained_8 : decode cX4_isDrained 8 = .ok (.aload_n 1, 1) := dk_43 (dk_at dksX4_isDrained_0 8 rfl rfl)
theorem dX4_isDrained_9 : decode cX4_isDrained 9 = .ok (.sipush 814, 3) := dk_17 3 46 (dk_at dksX4_isDrained_0 9 rfl rfl)
theorem dX4_isDrained_12 : decode cX4_isDrained 12 = .ok (.iaload, 1) := dk_46 (dk_at dksX4_isDrained_0 12 rfl rfl)
theorem dX4_isDrained_13 : decode cX4_isDrained 13 = .ok (.ifCond .ne 7, 3) := dk_154 0 7 (dk_at dksX4_isDrained_0 13 rfl rfl)
theorem dX4_isDrained_16 : decode cX4_isDrained 16 = .ok (.iconst 1, 1) := dk_4 (dk_at dksX4_isDrained_0 16 rfl rfl)
theorem dX4_isDrained_17 : decode cX4_isDrained 17 = .ok (.goto 4, 3) := dk_167 0 4 (dk_at dksX4_isDrained_0 17 rfl rfl)
theorem dX4_isDrained_20 : decode cX4_isDrained 20 = .ok (.iconst 0, 1) := dk_3 (dk_at dksX4_isDrained_0 20 rfl rfl)
theorem dX4_isDrained_21 : decode cX4_isDrained 21 = .ok (.istore_n 2, 1) := dk_61 (dk_at dksX4_isDrained_0 21 rfl rfl)
theorem dX4_isDrained_22 : decode cX4_isDrained 22 = .ok (.iconst 0, 1) := dk_3 (dk_at dksX4_isDrained_0 22 rfl rfl)
theorem dX4_isDrained_23 : decode cX4_isDrained 23 = .ok (.istore_n 3, 1) := dk_62 (dk_at dksX4_isDrained_0 23 rfl rfl)
theorem dX4_isDrained_24 : decode cX4_isDrained 24 = .ok (.iload_n 3, 1) := dk_29 (dk_at dksX4_isDrained_1 0 rfl rfl)
theorem dX4_isDrained_25 : decode cX4_isDrained 25 = .ok (.aload_n 0, 1) := dk_42 (dk_at dksX4_isDrained_1 1 rfl rfl)
theorem dX4_isDrained_26 : decode cX4_isDrained 26 = .ok (.getfield 198, 3) := dk_180 0 198 (dk_at dksX4_isDrained_1 2 rfl rfl)
theorem dX4_isDrained_29 : decode cX4_isDrained 29 = .ok (.if_icmp .ge 34, 3) := dk_162 0 34 (dk_at dksX4_isDrained_1 5 rfl rfl)
theorem dX4_isDrained_32 : decode cX4_isDrained 32 = .ok (.iload_n 2, 1) := dk_28 (dk_at dksX4_isDrained_1 8 rfl rfl)
theorem dX4_isDrained_33 : decode cX4_isDrained 33 = .ok (.ifCond .eq 22, 3) := dk_153 0 22 (dk_at dksX4_isDrained_1 9 rfl rfl)
theorem dX4_isDrained_36 : decode cX4_isDrained 36 = .ok (.aload_n 1, 1) := dk_43 (dk_at dksX4_isDrained_1 12 rfl rfl)
theorem dX4_isDrained_37 : decode cX4_isDrained 37 = .ok (.iload_n 3, 1) := dk_29 (dk_at dksX4_isDrained_1 13 rfl rfl)
theorem dX4_isDrained_38 : decode cX4_isDrained 38 = .ok (.iconst 1, 1) := dk_4 (dk_at dksX4_isDrained_1 14 rfl rfl)
theorem dX4_isDrained_39 : decode cX4_isDrained 39 = .ok (.invokestatic 220, 3) := dk_184 0 220 (dk_at dksX4_isDrained_1 15 rfl rfl)
theorem dX4_isDrained_42 : decode cX4_isDrained 42 = .ok (.aload_n 1, 1) := dk_43 (dk_at dksX4_isDrained_1 18 rfl rfl)
theorem dX4_isDrained_43 : decode cX4_isDrained 43 = .ok (.iload_n 3, 1) := dk_29 (dk_at dksX4_isDrained_1 19 rfl rfl)
theorem dX4_isDrained_44 : decode cX4_isDrained 44 = .ok (.iconst 3, 1) := dk_6 (dk_at dksX4_isDrained_1 20 rfl rfl)
theorem dX4_isDrained_45 : decode cX4_isDrained 45 = .ok (.invokestatic 220, 3) := dk_184 0 220 (dk_at dksX4_isDrained_1 21 rfl rfl)
theorem dX4_isDrained_48 : decode cX4_isDrained 48 = .ok (.if_icmp .ne 7, 3) := dk_160 0 7 (dk_at dksX4_isDrained_2 0 rfl rfl)
theorem dX4_isDrained_51 : decode cX4_isDrained 51 = .ok (.iconst 1, 1) := dk_4 (dk_at dksX4_isDrained_2 3 rfl rfl)
theorem dX4_isDrained_52 : decode cX4_isDrained 52 = .ok (.goto 4, 3) := dk_167 0 4 (dk_at dksX4_isDrained_2 4 rfl rfl)
theorem dX4_isDrained_55 : decode cX4_isDrained 55 = .ok (.iconst 0, 1) := dk_3 (dk_at dksX4_isDrained_2 7 rfl rfl)
theorem dX4_isDrained_56 : decode cX4_isDrained 56 = .ok (.istore_n 2, 1) := dk_61 (dk_at dksX4_isDrained_2 8 rfl rfl)
theorem dX4_isDrained_57 : decode cX4_isDrained 57 = .ok (.iinc 3 1, 3) := dk_132 3 1 (dk_at dksX4_isDrained_2 9 rfl rfl)
theorem dX4_isDrained_60 : decode cX4_isDrained 60 = .ok (.goto (-36), 3) := dk_167 255 220 (dk_at dksX4_isDrained_2 12 rfl rfl)
theorem dX4_isDrained_63 : decode cX4_isDrained 63 = .ok (.iload_n 2, 1) := dk_28 (dk_at dksX4_isDrained_2 15 rfl rfl)
theorem dX4_isDrained_64 : decode cX4_isDrained 64 = .ok (.ireturn, 1) := dk_172 (dk_at dksX4_isDrained_2 16 rfl rfl)
abbrev cX4_takesAll : ByteArray := prog_13_method_96_code
def yX4_takesAll : MethodName := ⟨RX4, "takesAll", "([I)V"⟩
def dkwX4_takesAll_1 : List UInt8 := [4, 96, 181, 1, 156, 167, 255, 237, 132, 2, 1, 167, 255, 223, 177]
abbrev dktX4_takesAll_1 : List UInt8 := dkwX4_takesAll_1 ++ []
def dkwX4_takesAll_0 : List UInt8 := [3, 61, 28, 42, 180, 0, 198, 162, 0, 31, 42, 43, 28, 182, 1, 117, 155, 0, 16, 42, 89, 180, 1, 156]
abbrev dktX4_takesAll_0 : List UInt8 := dkwX4_takesAll_0 ++ dktX4_takesAll_1
theorem dksX4_takesAll_0 : cX4_takesAll.data.toList.drop 0 = dktX4_takesAll_0 := by decide +kernel
theorem dksX4_takesAll_1 : cX4_takesAll.data.toList.drop 24 = dktX4_takesAll_1 := dk_seg dksX4_takesAll_0 24 rfl rfl
theorem dX4_takesAll_0 : decode cX4_takesAll 0 = .ok (.iconst 0, 1) := dk_3 (dk_at dksX4_takesAll_0 0 rfl rfl)
theorem dX4_takesAll_1 : decode cX4_takesAll 1 = .ok (.istore_n 2, 1) := dk_61 (dk_at dksX4_takesAll_0 1 rfl rfl)
theorem dX4_takesAll_2 : decode cX4_takesAll 2 = .ok (.iload_n 2, 1) := dk_28 (dk_at dksX4_takesAll_0 2 rfl rfl)
theorem dX4_takesAll_3 : decode cX4_takesAll 3 = .ok (.aload_n 0, 1) := dk_42 (dk_at dksX4_takesAll_0 3 rfl rfl)
theorem dX4_takesAll_4 : decode cX4_takesAll 4 = .ok (.getfield 198, 3) := dk_180 0 198 (dk_at dksX4_takesAll_0 4 rfl rfl)
theorem dX4_takesAll_7 : decode cX4_takesAll 7 = .ok (.if_icmp .ge 31, 3) := dk_162 0 31 (dk_at dksX4_takesAll_0 7 rfl rfl)
theorem dX4_takesAll_10 : decode cX4_takesAll 10 = .ok (.aload_n 0, 1) := dk_42 (dk_at dksX4_takesAll_0 10 rfl rfl)
theorem dX4_takesAll_11 : decode cX4_takesAll 11 = .ok (.aload_n 1, 1) := dk_43 (dk_at dksX4_takesAll_0 11 rfl rfl)
theorem dX4_takesAll_12 : decode cX4_takesAll 12 = .ok (.iload_n 2, 1) := dk_28 (dk_at dksX4_takesAll_0 12 rfl rfl)
theorem dX4_takesAll_13 : decode cX4_takesAll 13 = .ok (.invokevirtual 373, 3) := dk_182 1 117 (dk_at dksX4_takesAll_0 13 rfl rfl)
theorem dX4_takesAll_16 : decode cX4_takesAll 16 = .ok (.ifCond .lt 16, 3) := dk_155 0 16 (dk_at dksX4_takesAll_0 16 rfl rfl)
theorem dX4_takesAll_19 : decode cX4_takesAll 19 = .ok (.aload_n 0, 1) := dk_42 (dk_at dksX4_takesAll_0 19 rfl rfl)
theorem dX4_takesAll_20 : decode cX4_takesAll 20 = .ok (.dup, 1) := dk_89 (dk_at dksX4_takesAll_0 20 rfl rfl)
theorem dX4_takesAll_21 : decode cX4_takesAll 21 = .ok (.getfield 412, 3) := dk_180 1 156 (dk_at dksX4_takesAll_0 21 rfl rfl)
theorem dX4_takesAll_24 : decode cX4_takesAll 24 = .ok (.iconst 1, 1) := dk_4 (dk_at dksX4_takesAll_1 0 rfl rfl)
theorem dX4_takesAll_25 : decode cX4_takesAll 25 = .ok (.iadd, 1) := dk_96 (dk_at dksX4_takesAll_1 1 rfl rfl)
theorem dX4_takesAll_26 : decode cX4_takesAll 26 = .ok (.putfield 412, 3) := dk_181 1 156 (dk_at dksX4_takesAll_1 2 rfl rfl)
theorem dX4_takesAll_29 : decode cX4_takesAll 29 = .ok (.goto (-19), 3) := dk_167 255 237 (dk_at dksX4_takesAll_1 5 rfl rfl)
theorem dX4_takesAll_32 : decode cX4_takesAll 32 = .ok (.iinc 2 1, 3) := dk_132 2 1 (dk_at dksX4_takesAll_1 8 rfl rfl)
theorem dX4_takesAll_35 : decode cX4_takesAll 35 = .ok (.goto (-33), 3) := dk_167 255 223 (dk_at dksX4_takesAll_1 11 rfl rfl)
theorem dX4_takesAll_38 : decode cX4_takesAll 38 = .ok (.return_, 1) := dk_177 (dk_at dksX4_takesAll_1 14 rfl rfl)
abbrev cX4_would : ByteArray := prog_13_method_99_code
def yX4_would : MethodName := ⟨RX4, "would", "(I)I"⟩
def dkwX4_would_3 : List UInt8 := [167, 0, 4, 3, 184, 0, 40, 133, 182, 1, 89, 42, 180, 0, 149, 17, 3, 60, 27, 96, 46, 172]
abbrev dktX4_would_3 : List UInt8 := dkwX4_would_3 ++ []
def dkwX4_would_2 : List UInt8 := [167, 255, 235, 42, 42, 180, 0, 149, 182, 1, 165, 61, 42, 3, 181, 0, 11, 42, 28, 155, 0, 7, 4]
abbrev dktX4_would_2 : List UInt8 := dkwX4_would_2 ++ dktX4_would_3
def dkwX4_would_1 : List UInt8 := [61, 28, 42, 180, 0, 198, 162, 0, 19, 42, 42, 180, 0, 149, 28, 182, 1, 109, 87, 132, 2, 1]
abbrev dktX4_would_1 : List UInt8 := dkwX4_would_1 ++ dktX4_would_2
def dkwX4_would_0 : List UInt8 := [42, 3, 181, 0, 3, 27, 133, 9, 20, 1, 14, 184, 0, 21, 154, 0, 5, 2, 172, 42, 182, 1, 153, 3]
abbrev dktX4_would_0 : List UInt8 := dkwX4_would_0 ++ dktX4_would_1
theorem dksX4_would_0 : cX4_would.data.toList.drop 0 = dktX4_would_0 := by decide +kernel
theorem dksX4_would_1 : cX4_would.data.toList.drop 24 = dktX4_would_1 := dk_seg dksX4_would_0 24 rfl rfl
theorem dksX4_would_2 : cX4_would.data.toList.drop 46 = dktX4_would_2 := dk_seg dksX4_would_1 22 rfl rfl
theorem dksX4_would_3 : cX4_would.data.toList.drop 69 = dktX4_would_3 := dk_seg dksX4_would_2 23 rfl rfl
theorem dX4_would_0 : decode cX4_would 0 = .ok (.aload_n 0, 1) := dk_42 (dk_at dksX4_would_0 0 rfl rfl)
theorem dX4_would_1 : decode cX4_would 1 = .ok (.iconst 0, 1) := dk_3 (dk_at dksX4_would_0 1 rfl rfl)
theorem dX4_would_2 : decode cX4_would 2 = .ok (.putfield 3, 3) := dk_181 0 3 (dk_at dksX4_would_0 2 rfl rfl)
theorem dX4_would_5 : decode cX4_would 5 = .ok (.iload_n 1, 1) := dk_27 (dk_at dksX4_would_0 5 rfl rfl)
theorem dX4_would_6 : decode cX4_would 6 = .ok (.i2l, 1) := dk_133 (dk_at dksX4_would_0 6 rfl rfl)
theorem dX4_would_7 : decode cX4_would 7 = .ok (.lconst 0, 1) := dk_9 (dk_at dksX4_would_0 7 rfl rfl)
theorem dX4_would_8 : decode cX4_would 8 = .ok (.ldc2_w 270, 3) := dk_20 1 14 (dk_at dksX4_would_0 8 rfl rfl)
theorem dX4_would_11 : decode cX4_would 11 = .ok (.invokestatic 21, 3) := dk_184 0 21 (dk_at dksX4_would_0 11 rfl rfl)
theorem dX4_would_14 : decode cX4_would 14 = .ok (.ifCond .ne 5, 3) := dk_154 0 5 (dk_at dksX4_would_0 14 rfl rfl)
theorem dX4_would_17 : decode cX4_would 17 = .ok (.iconst (-1), 1) := dk_2 (dk_at dksX4_would_0 17 rfl rfl)
theorem dX4_would_18 : decode cX4_would 18 = .ok (.ireturn, 1) := dk_172 (dk_at dksX4_would_0 18 rfl rfl)
theorem dX4_would_19 : decode cX4_would 19 = .ok (.aload_n 0, 1) := dk_42 (dk_at dksX4_would_0 19 rfl rfl)
theorem dX4_would_20 : decode cX4_would 20 = .ok (.invokevirtual 409, 3) := dk_182 1 153 (dk_at dksX4_would_0 20 rfl rfl)
theorem dX4_would_23 : decode cX4_would 23 = .ok (.iconst 0, 1) := dk_3 (dk_at dksX4_would_0 23 rfl rfl)
theorem dX4_would_24 : decode cX4_would 24 = .ok (.istore_n 2, 1) := dk_61 (dk_at dksX4_would_1 0 rfl rfl)
theorem dX4_would_25 : decode cX4_would 25 = .ok (.iload_n 2, 1) := dk_28 (dk_at dksX4_would_1 1 rfl rfl)
theorem dX4_would_26 : decode cX4_would 26 = .ok (.aload_n 0, 1) := dk_42 (dk_at dksX4_would_1 2 rfl rfl)
theorem dX4_would_27 : decode cX4_would 27 = .ok (.getfield 198, 3) := dk_180 0 198 (dk_at dksX4_would_1 3 rfl rfl)
theorem dX4_would_30 : decode cX4_would 30 = .ok (.if_icmp .ge 19, 3) := dk_162 0 19 (dk_at dksX4_would_1 6 rfl rfl)
theorem dX4_would_33 : decode cX4_would 33 = .ok (.aload_n 0, 1) := dk_42 (dk_at dksX4_would_1 9 rfl rfl)
theorem dX4_would_34 : decode cX4_would 34 = .ok (.aload_n 0, 1) := dk_42 (dk_at dksX4_would_1 10 rfl rfl)
theorem dX4_would_35 : decode cX4_would 35 = .ok (.getfield 149, 3) := dk_180 0 149 (dk_at dksX4_would_1 11 rfl rfl)
theorem dX4_would_38 : decode cX4_would 38 = .ok (.iload_n 2, 1) := dk_28 (dk_at dksX4_would_1 14 rfl rfl)
theorem dX4_would_39 : decode cX4_would 39 = .ok (.invokevirtual 365, 3) := dk_182 1 109 (dk_at dksX4_would_1 15 rfl rfl)
theorem dX4_would_42 : decode cX4_would 42 = .ok (.pop, 1) := dk_87 (dk_at dksX4_would_1 18 rfl rfl)
theorem dX4_would_43 : decode cX4_would 43 = .ok (.iinc 2 1, 3) := dk_132 2 1 (dk_at dksX4_would_1 19 rfl rfl)
theorem dX4_would_46 : decode cX4_would 46 = .ok (.goto (-21), 3) := dk_167 255 235 (dk_at dksX4_would_2 0 rfl rfl)
theorem dX4_would_49 : decode cX4_would 49 = .ok (.aload_n 0, 1) := dk_42 (dk_at dksX4_would_2 3 rfl rfl)
theorem dX4_would_50 : decode cX4_would 50 = .ok (.aload_n 0, 1) := dk_42 (dk_at dksX4_would_2 4 rfl rfl)
theorem dX4_would_51 : decode cX4_would 51 = .ok (.getfield 149, 3) := dk_180 0 149 (dk_at dksX4_would_2 5 rfl rfl)
theorem dX4_would_54 : decode cX4_would 54 = .ok (.invokevirtual 421, 3) := dk_182 1 165 (dk_at dksX4_would_2 8 rfl rfl)
theorem dX4_would_57 : decode cX4_would 57 = .ok (.istore_n 2, 1) := dk_61 (dk_at dksX4_would_2 11 rfl rfl)
theorem dX4_would_58 : decode cX4_would 58 = .ok (.aload_n 0, 1) := dk_42 (dk_at dksX4_would_2 12 rfl rfl)
theorem dX4_would_59 : decode cX4_would 59 = .ok (.iconst 0, 1) := dk_3 (dk_at dksX4_would_2 13 rfl rfl)
theorem dX4_would_60 : decode cX4_would 60 = .ok (.putfield 11, 3) := dk_181 0 11 (dk_at dksX4_would_2 14 rfl rfl)
theorem dX4_would_63 : decode cX4_would 63 = .ok (.aload_n 0, 1) := dk_42 (dk_at dksX4_would_2 17 rfl rfl)
theorem dX4_would_64 : decode cX4_would 64 = .ok (.iload_n 2, 1) := dk_28 (dk_at dksX4_would_2 18 rfl rfl)
theorem dX4_would_65 : decode cX4_would 65 = .ok (.ifCond .lt 7, 3) := dk_155 0 7 (dk_at dksX4_would_2 19 rfl rfl)
theorem dX4_would_68 : decode cX4_would 68 = .ok (.iconst 1, 1) := dk_4 (dk_at dksX4_would_2 22 rfl rfl)
theorem dX4_would_69 : decode cX4_would 69 = .ok (.goto 4, 3) := dk_167 0 4 (dk_at dksX4_would_3 0 rfl rfl)
theorem dX4_would_72 : decode cX4_would 72 = .ok (.iconst 0, 1) := dk_3 (dk_at dksX4_would_3 3 rfl rfl)
theorem dX4_would_73 : decode cX4_would 73 = .ok (.invokestatic 40, 3) := dk_184 0 40 (dk_at dksX4_would_3 4 rfl rfl)
theorem dX4_would_76 : decode cX4_would 76 = .ok (.i2l, 1) := dk_133 (dk_at dksX4_would_3 7 rfl rfl)
theorem dX4_would_77 : decode cX4_would 77 = .ok (.invokevirtual 345, 3) := dk_182 1 89 (dk_at dksX4_would_3 8 rfl rfl)
theorem dX4_would_80 : decode cX4_would 80 = .ok (.aload_n 0, 1) := dk_42 (dk_at dksX4_would_3 11 rfl rfl)
theorem dX4_would_81 : decode cX4_would 81 = .ok (.getfield 149, 3) := dk_180 0 149 (dk_at dksX4_would_3 12 rfl rfl)
theorem dX4_would_84 : decode cX4_would 84 = .ok (.sipush 828, 3) := dk_17 3 60 (dk_at dksX4_would_3 15 rfl rfl)
theorem dX4_would_87 : decode cX4_would 87 = .ok (.iload_n 1, 1) := dk_27 (dk_at dksX4_would_3 18 rfl rfl)
theorem dX4_would_88 : decode cX4_would 88 = .ok (.iadd, 1) := dk_96 (dk_at dksX4_would_3 19 rfl rfl)
theorem dX4_would_89 : decode cX4_would 89 = .ok (.iaload, 1) := dk_46 (dk_at dksX4_would_3 20 rfl rfl)
theorem dX4_would_90 : decode cX4_would 90 = .ok (.ireturn, 1) := dk_172 (dk_at dksX4_would_3 21 rfl rfl)
abbrev cX4_needs : ByteArray := prog_13_method_100_code
def yX4_needs : MethodName := ⟨RX4, "needs", "(I)I"⟩
def dkwX4_needs_2 : List UInt8 := [184, 0, 220, 42, 180, 0, 146, 27, 5, 184, 0, 220, 100, 133, 182, 1, 89, 28, 172]
abbrev dktX4_needs_2 : List UInt8 := dkwX4_needs_2 ++ []
def dkwX4_needs_1 : List UInt8 := [27, 182, 1, 109, 61, 28, 156, 0, 5, 28, 172, 42, 3, 181, 0, 11, 42, 42, 180, 0, 149, 27, 5]
abbrev dktX4_needs_1 : List UInt8 := dkwX4_needs_1 ++ dktX4_needs_2
def dkwX4_needs_0 : List UInt8 := [42, 3, 181, 0, 3, 42, 27, 182, 0, 212, 154, 0, 5, 2, 172, 42, 182, 1, 153, 42, 42, 180, 0, 149]
abbrev dktX4_needs_0 : List UInt8 := dkwX4_needs_0 ++ dktX4_needs_1
theorem dksX4_needs_0 : cX4_needs.data.toList.drop 0 = dktX4_needs_0 := by decide +kernel
theorem dksX4_needs_1 : cX4_needs.data.toList.drop 24 = dktX4_needs_1 := dk_seg dksX4_needs_0 24 rfl rfl
theorem dksX4_needs_2 : cX4_needs.data.toList.drop 47 = dktX4_needs_2 := dk_seg dksX4_needs_1 23 rfl rfl
theorem dX4_needs_0 : decode cX4_needs 0 = .ok (.aload_n 0, 1) := dk_42 (dk_at dksX4_needs_0 0 rfl rfl)
theorem dX4_needs_1 : decode cX4_needs 1 = .ok (.iconst 0, 1) := dk_3 (dk_at dksX4_needs_0 1 rfl rfl)
theorem dX4_needs_2 : decode cX4_needs 2 = .ok (.putfield 3, 3) := dk_181 0 3 (dk_at dksX4_needs_0 2 rfl rfl)
theorem dX4_needs_5 : decode cX4_needs 5 = .ok (.aload_n 0, 1) := dk_42 (dk_at dksX4_needs_0 5 rfl rfl)
theorem dX4_needs_6 : decode cX4_needs 6 = .ok (.iload_n 1, 1) := dk_27 (dk_at dksX4_needs_0 6 rfl rfl)
theorem dX4_needs_7 : decode cX4_needs 7 = .ok (.invokevirtual 212, 3) := dk_182 0 212 (dk_at dksX4_needs_0 7 rfl rfl)
theorem dX4_needs_10 : decode cX4_needs 10 = .ok (.ifCond .ne 5, 3) := dk_154 0 5 (dk_at dksX4_needs_0 10 rfl rfl)
theorem dX4_needs_13 : decode cX4_needs 13 = .ok (.iconst (-1), 1) := dk_2 (dk_at dksX4_needs_0 13 rfl rfl)
theorem dX4_needs_14 : decode cX4_needs 14 = .ok (.ireturn, 1) := dk_172 (dk_at dksX4_needs_0 14 rfl rfl)
theorem dX4_needs_15 : decode cX4_needs 15 = .ok (.aload_n 0, 1) := dk_42 (dk_at dksX4_needs_0 15 rfl rfl)
theorem dX4_needs_16 : decode cX4_needs 16 = .ok (.invokevirtual 409, 3) := dk_182 1 153 (dk_at dksX4_needs_0 16 rfl rfl)
theorem dX4_needs_19 : decode cX4_needs 19 = .ok (.aload_n 0, 1) := dk_42 (dk_at dksX4_needs_0 19 rfl rfl)
theorem dX4_needs_20 : decode cX4_needs 20 = .ok (.aload_n 0, 1) := dk_42 (dk_at dksX4_needs_0 20 rfl rfl)
theorem dX4_needs_21 : decode cX4_needs 21 = .ok (.getfield 149, 3) := dk_180 0 149 (dk_at dksX4_needs_0 21 rfl rfl)
theorem dX4_needs_24 : decode cX4_needs 24 = .ok (.iload_n 1, 1) := dk_27 (dk_at dksX4_needs_1 0 rfl rfl)
theorem dX4_needs_25 : decode cX4_needs 25 = .ok (.invokevirtual 365, 3) := dk_182 1 109 (dk_at dksX4_needs_1 1 rfl rfl)
theorem dX4_needs_28 : decode cX4_needs 28 = .ok (.istore_n 2, 1) := dk_61 (dk_at dksX4_needs_1 4 rfl rfl)
theorem dX4_needs_29 : decode cX4_needs 29 = .ok (.iload_n 2, 1) := dk_28 (dk_at dksX4_needs_1 5 rfl rfl)
theorem dX4_needs_30 : decode cX4_needs 30 = .ok (.ifCond .ge 5, 3) := dk_156 0 5 (dk_at dksX4_needs_1 6 rfl rfl)
theorem dX4_needs_33 : decode cX4_needs 33 = .ok (.iload_n 2, 1) := dk_28 (dk_at dksX4_needs_1 9 rfl rfl)
theorem dX4_needs_34 : decode cX4_needs 34 = .ok (.ireturn, 1) := dk_172 (dk_at dksX4_needs_1 10 rfl rfl)
theorem dX4_needs_35 : decode cX4_needs 35 = .ok (.aload_n 0, 1) := dk_42 (dk_at dksX4_needs_1 11 rfl rfl)
theorem dX4_needs_36 : decode cX4_needs 36 = .ok (.iconst 0, 1) := dk_3 (dk_at dksX4_needs_1 12 rfl rfl)
theorem dX4_needs_37 : decode cX4_needs 37 = .ok (.putfield 11, 3) := dk_181 0 11 (dk_at dksX4_needs_1 13 rfl rfl)
theorem dX4_needs_40 : decode cX4_needs 40 = .ok (.aload_n 0, 1) := dk_42 (dk_at dksX4_needs_1 16 rfl rfl)
theorem dX4_needs_41 : decode cX4_needs 41 = .ok (.aload_n 0, 1) := dk_42 (dk_at dksX4_needs_1 17 rfl rfl)
theorem dX4_needs_42 : decode cX4_needs 42 = .ok (.getfield 149, 3) := dk_180 0 149 (dk_at dksX4_needs_1 18 rfl rfl)
theorem dX4_needs_45 : decode cX4_needs 45 = .ok (.iload_n 1, 1) := dk_27 (dk_at dksX4_needs_1 21 rfl rfl)
theorem dX4_needs_46 : decode cX4_needs 46 = .ok (.iconst 2, 1) := dk_5 (dk_at dksX4_needs_1 22 rfl rfl)
theorem dX4_needs_47 : decode cX4_needs 47 = .ok (.invokestatic 220, 3) := dk_184 0 220 (dk_at dksX4_needs_2 0 rfl rfl)
theorem dX4_needs_50 : decode cX4_needs 50 = .ok (.aload_n 0, 1) := dk_42 (dk_at dksX4_needs_2 3 rfl rfl)
theorem dX4_needs_51 : decode cX4_needs 51 = .ok (.getfield 146, 3) := dk_180 0 146 (dk_at dksX4_needs_2 4 rfl rfl)
theorem dX4_needs_54 : decode cX4_needs 54 = .ok (.iload_n 1, 1) := dk_27 (dk_at dksX4_needs_2 7 rfl rfl)
theorem dX4_needs_55 : decode cX4_needs 55 = .ok (.iconst 2, 1) := dk_5 (dk_at dksX4_needs_2 8 rfl rfl)
theorem dX4_needs_56 : decode cX4_needs 56 = .ok (.invokestatic 220, 3) := dk_184 0 220 (dk_at dksX4_needs_2 9 rfl rfl)
theorem dX4_needs_59 : decode cX4_needs 59 = .ok (.isub, 1) := dk_100 (dk_at dksX4_needs_2 12 rfl rfl)
theorem dX4_needs_60 : decode cX4_needs 60 = .ok (.i2l, 1) := dk_133 (dk_at dksX4_needs_2 13 rfl rfl)
theorem dX4_needs_61 : decode cX4_needs 61 = .ok (.invokevirtual 345, 3) := dk_182 1 89 (dk_at dksX4_needs_2 14 rfl rfl)
theorem dX4_needs_64 : decode cX4_needs 64 = .ok (.iload_n 2, 1) := dk_28 (dk_at dksX4_needs_2 17 rfl rfl)
theorem dX4_needs_65 : decode cX4_needs 65 = .ok (.ireturn, 1) := dk_172 (dk_at dksX4_needs_2 18 rfl rfl)
abbrev cX4_bells : ByteArray := prog_13_method_101_code
def yX4_bells : MethodName := ⟨RX4, "bells", "()I"⟩
def dkwX4_bells_1 : List UInt8 := [180, 0, 146, 17, 3, 70, 46, 172]
abbrev dktX4_bells_1 : List UInt8 := dkwX4_bells_1 ++ []
def dkwX4_bells_0 : List UInt8 := [42, 3, 181, 0, 3, 42, 3, 181, 0, 11, 42, 42, 180, 0, 146, 17, 3, 71, 46, 133, 182, 1, 89, 42]
abbrev dktX4_bells_0 : List UInt8 := dkwX4_bells_0 ++ dktX4_bells_1
theorem dksX4_bells_0 : cX4_bells.data.toList.drop 0 = dktX4_bells_0 := by decide +kernel
theorem dksX4_bells_1 : cX4_bells.data.toList.drop 24 = dktX4_bells_1 := dk_seg dksX4_bells_0 24 rfl rfl
theorem dX4_bells_0 : decode cX4_bells 0 = .ok (.aload_n 0, 1) := dk_42 (dk_at dksX4_bells_0 0 rfl rfl)
theorem dX4_bells_1 : decode cX4_bells 1 = .ok (.iconst 0, 1) := dk_3 (dk_at dksX4_bells_0 1 rfl rfl)
theorem dX4_bells_2 : decode cX4_bells 2 = .ok (.putfield 3, 3) := dk_181 0 3 (dk_at dksX4_bells_0 2 rfl rfl)
theorem dX4_bells_5 : decode cX4_bells 5 = .ok (.aload_n 0, 1) := dk_42 (dk_at dksX4_bells_0 5 rfl rfl)
theorem dX4_bells_6 : decode cX4_bells 6 = .ok (.iconst 0, 1) := dk_3 (dk_at dksX4_bells_0 6 rfl rfl)
theorem dX4_bells_7 : decode cX4_bells 7 = .ok (.putfield 11, 3) := dk_181 0 11 (dk_at dksX4_bells_0 7 rfl rfl)
theorem dX4_bells_10 : decode cX4_bells 10 = .ok (.aload_n 0, 1) := dk_42 (dk_at dksX4_bells_0 10 rfl rfl)
theorem dX4_bells_11 : decode cX4_bells 11 = .ok (.aload_n 0, 1) := dk_42 (dk_at dksX4_bells_0 11 rfl rfl)
theorem dX4_bells_12 : decode cX4_bells 12 = .ok (.getfield 146, 3) := dk_180 0 146 (dk_at dksX4_bells_0 12 rfl rfl)
theorem dX4_bells_15 : decode cX4_bells 15 = .ok (.sipush 839, 3) := dk_17 3 71 (dk_at dksX4_bells_0 15 rfl rfl)
theorem dX4_bells_18 : decode cX4_bells 18 = .ok (.iaload, 1) := dk_46 (dk_at dksX4_bells_0 18 rfl rfl)
theorem dX4_bells_19 : decode cX4_bells 19 = .ok (.i2l, 1) := dk_133 (dk_at dksX4_bells_0 19 rfl rfl)
theorem dX4_bells_20 : decode cX4_bells 20 = .ok (.invokevirtual 345, 3) := dk_182 1 89 (dk_at dksX4_bells_0 20 rfl rfl)
theorem dX4_bells_23 : decode cX4_bells 23 = .ok (.aload_n 0, 1) := dk_42 (dk_at dksX4_bells_0 23 rfl rfl)
theorem dX4_bells_24 : decode cX4_bells 24 = .ok (.getfield 146, 3) := dk_180 0 146 (dk_at dksX4_bells_1 0 rfl rfl)
theorem dX4_bells_27 : decode cX4_bells 27 = .ok (.sipush 838, 3) := dk_17 3 70 (dk_at dksX4_bells_1 3 rfl rfl)
theorem dX4_bells_30 : decode cX4_bells 30 = .ok (.iaload, 1) := dk_46 (dk_at dksX4_bells_1 6 rfl rfl)
theorem dX4_bells_31 : decode cX4_bells 31 = .ok (.ireturn, 1) := dk_172 (dk_at dksX4_bells_1 7 rfl rfl)
abbrev cX4_recall : ByteArray := prog_13_method_102_code
def yX4_recall : MethodName := ⟨RX4, "recall", "(II)I"⟩
def dkwX4_recall_3 : List UInt8 := [180, 0, 146, 27, 28, 184, 0, 252, 133, 167, 0, 6, 21, 4, 133, 182, 1, 89, 29, 172]
abbrev dktX4_recall_3 : List UInt8 := dkwX4_recall_3 ++ []
def dkwX4_recall_2 : List UInt8 := [180, 0, 146, 21, 4, 184, 0, 236, 16, 11, 96, 46, 133, 182, 1, 89, 42, 29, 154, 0, 16, 42]
abbrev dktX4_recall_2 : List UInt8 := dkwX4_recall_2 ++ dktX4_recall_3
def dkwX4_recall_1 : List UInt8 := [181, 0, 11, 42, 180, 0, 146, 27, 28, 184, 0, 255, 54, 4, 42, 29, 154, 0, 7, 9, 167, 0, 17, 42]
abbrev dktX4_recall_1 : List UInt8 := dkwX4_recall_1 ++ dktX4_recall_2
def dkwX4_recall_0 : List UInt8 := [42, 3, 181, 0, 3, 42, 42, 180, 0, 146, 27, 28, 182, 1, 28, 62, 29, 156, 0, 5, 29, 172, 42, 3]
abbrev dktX4_recall_0 : List UInt8 := dkwX4_recall_0 ++ dktX4_recall_1
theorem dksX4_recall_0 : cX4_recall.data.toList.drop 0 = dktX4_recall_0 := by decide +kernel
theorem dksX4_recall_1 : cX4_recall.data.toList.drop 24 = dktX4_recall_1 := dk_seg dksX4_recall_0 24 rfl rfl
theorem dksX4_recall_2 : cX4_recall.data.toList.drop 48 = dktX4_recall_2 := dk_seg dksX4_recall_1 24 rfl rfl
theorem dksX4_recall_3 : cX4_recall.data.toList.drop 70 = dktX4_recall_3 := dk_seg dksX4_recall_2 22 rfl rfl
theorem dX4_recall_0 : decode cX4_recall 0 = .ok (.aload_n 0, 1) := dk_42 (dk_at dksX4_recall_0 0 rfl rfl)
theorem dX4_recall_1 : decode cX4_recall 1 = .ok (.iconst 0, 1) := dk_3 (dk_at dksX4_recall_0 1 rfl rfl)
theorem dX4_recall_2 : decode cX4_recall 2 = .ok (.putfield 3, 3) := dk_181 0 3 (dk_at dksX4_recall_0 2 rfl rfl)
theorem dX4_recall_5 : decode cX4_recall 5 = .ok (.aload_n 0, 1) := dk_42 (dk_at dksX4_recall_0 5 rfl rfl)
theorem dX4_recall_6 : decode cX4_recall 6 = .ok (.aload_n 0, 1) := dk_42 (dk_at dksX4_recall_0 6 rfl rfl)
theorem dX4_recall_7 : decode cX4_recall 7 = .ok (.getfield 146, 3) := dk_180 0 146 (dk_at dksX4_recall_0 7 rfl rfl)
theorem dX4_recall_10 : decode cX4_recall 10 = .ok (.iload_n 1, 1) := dk_27 (dk_at dksX4_recall_0 10 rfl rfl)
theorem dX4_recall_11 : decode cX4_recall 11 = .ok (.iload_n 2, 1) := dk_28 (dk_at dksX4_recall_0 11 rfl rfl)
theorem dX4_recall_12 : decode cX4_recall 12 = .ok (.invokevirtual 284, 3) := dk_182 1 28 (dk_at dksX4_recall_0 12 rfl rfl)
theorem dX4_recall_15 : decode cX4_recall 15 = .ok (.istore_n 3, 1) := dk_62 (dk_at dksX4_recall_0 15 rfl rfl)
theorem dX4_recall_16 : decode cX4_recall 16 = .ok (.iload_n 3, 1) := dk_29 (dk_at dksX4_recall_0 16 rfl rfl)
theorem dX4_recall_17 : decode cX4_recall 17 = .ok (.ifCond .ge 5, 3) := dk_156 0 5 (dk_at dksX4_recall_0 17 rfl rfl)
theorem dX4_recall_20 : decode cX4_recall 20 = .ok (.iload_n 3, 1) := dk_29 (dk_at dksX4_recall_0 20 rfl rfl)
theorem dX4_recall_21 : decode cX4_recall 21 = .ok (.ireturn, 1) := dk_172 (dk_at dksX4_recall_0 21 rfl rfl)
theorem dX4_recall_22 : decode cX4_recall 22 = .ok (.aload_n 0, 1) := dk_42 (dk_at dksX4_recall_0 22 rfl rfl)
theorem dX4_recall_23 : decode cX4_recall 23 = .ok (.iconst 0, 1) := dk_3 (dk_at dksX4_recall_0 23 rfl rfl)
theorem dX4_recall_24 : decode cX4_recall 24 = .ok (.putfield 11, 3) := dk_181 0 11 (dk_at dksX4_recall_1 0 rfl rfl)
theorem dX4_recall_27 : decode cX4_recall 27 = .ok (.aload_n 0, 1) := dk_42 (dk_at dksX4_recall_1 3 rfl rfl)
theorem dX4_recall_28 : decode cX4_recall 28 = .ok (.getfield 146, 3) := dk_180 0 146 (dk_at dksX4_recall_1 4 rfl rfl)
theorem dX4_recall_31 : decode cX4_recall 31 = .ok (.iload_n 1, 1) := dk_27 (dk_at dksX4_recall_1 7 rfl rfl)
theorem dX4_recall_32 : decode cX4_recall 32 = .ok (.iload_n 2, 1) := dk_28 (dk_at dksX4_recall_1 8 rfl rfl)
theorem dX4_recall_33 : decode cX4_recall 33 = .ok (.invokestatic 255, 3) := dk_184 0 255 (dk_at dksX4_recall_1 9 rfl rfl)
theorem dX4_recall_36 : decode cX4_recall 36 = .ok (.istore 4, 2) := dk_54 4 (dk_at dksX4_recall_1 12 rfl rfl)
theorem dX4_recall_38 : decode cX4_recall 38 = .ok (.aload_n 0, 1) := dk_42 (dk_at dksX4_recall_1 14 rfl rfl)
theorem dX4_recall_39 : decode cX4_recall 39 = .ok (.iload_n 3, 1) := dk_29 (dk_at dksX4_recall_1 15 rfl rfl)
theorem dX4_recall_40 : decode cX4_recall 40 = .ok (.ifCond .ne 7, 3) := dk_154 0 7 (dk_at dksX4_recall_1 16 rfl rfl)
theorem dX4_recall_43 : decode cX4_recall 43 = .ok (.lconst 0, 1) := dk_9 (dk_at dksX4_recall_1 19 rfl rfl)
theorem dX4_recall_44 : decode cX4_recall 44 = .ok (.goto 17, 3) := dk_167 0 17 (dk_at dksX4_recall_1 20 rfl rfl)
theorem dX4_recall_47 : decode cX4_recall 47 = .ok (.aload_n 0, 1) := dk_42 (dk_at dksX4_recall_1 23 rfl rfl)
theorem dX4_recall_48 : decode cX4_recall 48 = .ok (.getfield 146, 3) := dk_180 0 146 (dk_at dksX4_recall_2 0 rfl rfl)
theorem dX4_recall_51 : decode cX4_recall 51 = .ok (.iload 4, 2) := dk_21 4 (dk_at dksX4_recall_2 3 rfl rfl)
theorem dX4_recall_53 : decode cX4_recall 53 = .ok (.invokestatic 236, 3) := dk_184 0 236 (dk_at dksX4_recall_2 5 rfl rfl)
theorem dX4_recall_56 : decode cX4_recall 56 = .ok (.bipush 11, 2) := dk_16 11 (dk_at dksX4_recall_2 8 rfl rfl)
theorem dX4_recall_58 : decode cX4_recall 58 = .ok (.iadd, 1) := dk_96 (dk_at dksX4_recall_2 10 rfl rfl)
theorem dX4_recall_59 : decode cX4_recall 59 = .ok (.iaload, 1) := dk_46 (dk_at dksX4_recall_2 11 rfl rfl)
theorem dX4_recall_60 : decode cX4_recall 60 = .ok (.i2l, 1) := dk_133 (dk_at dksX4_recall_2 12 rfl rfl)
theorem dX4_recall_61 : decode cX4_recall 61 = .ok (.invokevirtual 345, 3) := dk_182 1 89 (dk_at dksX4_recall_2 13 rfl rfl)
theorem dX4_recall_64 : decode cX4_recall 64 = .ok (.aload_n 0, 1) := dk_42 (dk_at dksX4_recall_2 16 rfl rfl)
theorem dX4_recall_65 : decode cX4_recall 65 = .ok (.iload_n 3, 1) := dk_29 (dk_at dksX4_recall_2 17 rfl rfl)
theorem dX4_recall_66 : decode cX4_recall 66 = .ok (.ifCond .ne 16, 3) := dk_154 0 16 (dk_at dksX4_recall_2 18 rfl rfl)
theorem dX4_recall_69 : decode cX4_recall 69 = .ok (.aload_n 0, 1) := dk_42 (dk_at dksX4_recall_2 21 rfl rfl)
theorem dX4_recall_70 : decode cX4_recall 70 = .ok (.getfield 146, 3) := dk_180 0 146 (dk_at dksX4_recall_3 0 rfl rfl)
theorem dX4_recall_73 : decode cX4_recall 73 = .ok (.iload_n 1, 1) := dk_27 (dk_at dksX4_recall_3 3 rfl rfl)
theorem dX4_recall_74 : decode cX4_recall 74 = .ok (.iload_n 2, 1) := dk_28 (dk_at dksX4_recall_3 4 rfl rfl)
theorem dX4_recall_75 : decode cX4_recall 75 = .ok (.invokestatic 252, 3) := dk_184 0 252 (dk_at dksX4_recall_3 5 rfl rfl)
theorem dX4_recall_78 : decode cX4_recall 78 = .ok (.i2l, 1) := dk_133 (dk_at dksX4_recall_3 8 rfl rfl)
theorem dX4_recall_79 : decode cX4_recall 79 = .ok (.goto 6, 3) := dk_167 0 6 (dk_at dksX4_recall_3 9 rfl rfl)
theorem dX4_recall_82 : decode cX4_recall 82 = .ok (.iload 4, 2) := dk_21 4 (dk_at dksX4_recall_3 12 rfl rfl)
theorem dX4_recall_84 : decode cX4_recall 84 = .ok (.i2l, 1) := dk_133 (dk_at dksX4_recall_3 14 rfl rfl)
theorem dX4_recall_85 : decode cX4_recall 85 = .ok (.invokevirtual 345, 3) := dk_182 1 89 (dk_at dksX4_recall_3 15 rfl rfl)
theorem dX4_recall_88 : decode cX4_recall 88 = .ok (.iload_n 3, 1) := dk_29 (dk_at dksX4_recall_3 18 rfl rfl)
theorem dX4_recall_89 : decode cX4_recall 89 = .ok (.ireturn, 1) := dk_172 (dk_at dksX4_recall_3 19 rfl rfl)
abbrev cX4_served : ByteArray := prog_13_method_103_code
def yX4_served : MethodName := ⟨RX4, "served", "()I"⟩
def dkwX4_served_2 : List UInt8 := [46, 133, 182, 1, 89, 42, 180, 0, 146, 184, 1, 76, 42, 180, 0, 146, 17, 3, 72, 46, 100, 172]
abbrev dktX4_served_2 : List UInt8 := dkwX4_served_2 ++ []
def dkwX4_served_1 : List UInt8 := [17, 3, 72, 27, 96, 46, 133, 182, 1, 89, 132, 1, 1, 167, 255, 233, 42, 42, 180, 0, 146, 17, 3, 72]
abbrev dktX4_served_1 : List UInt8 := dkwX4_served_1 ++ dktX4_served_2
def dkwX4_served_0 : List UInt8 := [42, 3, 181, 0, 3, 42, 3, 181, 0, 11, 4, 60, 27, 7, 162, 0, 24, 42, 42, 180, 0, 146]
abbrev dktX4_served_0 : List UInt8 := dkwX4_served_0 ++ dktX4_served_1
theorem dksX4_served_0 : cX4_served.data.toList.drop 0 = dktX4_served_0 := by decide +kernel
theorem dksX4_served_1 : cX4_served.data.toList.drop 22 = dktX4_served_1 := dk_seg dksX4_served_0 22 rfl rfl
theorem dksX4_served_2 : cX4_served.data.toList.drop 46 = dktX4_served_2 := dk_seg dksX4_served_1 24 rfl rfl
theorem dX4_served_0 : decode cX4_served 0 = .ok (.aload_n 0, 1) := dk_42 (dk_at dksX4_served_0 0 rfl rfl)
theorem dX4_served_1 : decode cX4_served 1 = .ok (.iconst 0, 1) := dk_3 (dk_at dksX4_served_0 1 rfl rfl)
theorem dX4_served_2 : decode cX4_served 2 = .ok (.putfield 3, 3) := dk_181 0 3 (dk_at dksX4_served_0 2 rfl rfl)
theorem dX4_served_5 : decode cX4_served 5 = .ok (.aload_n 0, 1) := dk_42 (dk_at dksX4_served_0 5 rfl rfl)
theorem dX4_served_6 : decode cX4_served 6 = .ok (.iconst 0, 1) := dk_3 (dk_at dksX4_served_0 6 rfl rfl)
theorem dX4_served_7 : decode cX4_served 7 = .ok (.putfield 11, 3) := dk_181 0 11 (dk_at dksX4_served_0 7 rfl rfl)
theorem dX4_served_10 : decode cX4_served 10 = .ok (.iconst 1, 1) := dk_4 (dk_at dksX4_served_0 10 rfl rfl)
theorem dX4_served_11 : decode cX4_served 11 = .ok (.istore_n 1, 1) := dk_60 (dk_at dksX4_served_0 11 rfl rfl)
theorem dX4_served_12 : decode cX4_served 12 = .ok (.iload_n 1, 1) := dk_27 (dk_at dksX4_served_0 12 rfl rfl)
theorem dX4_served_13 : decode cX4_served 13 = .ok (.iconst 4, 1) := dk_7 (dk_at dksX4_served_0 13 rfl rfl)
theorem dX4_served_14 : decode cX4_served 14 = .ok (.if_icmp .ge 24, 3) := dk_162 0 24 (dk_at dksX4_served_0 14 rfl rfl)
theorem dX4_served_17 : decode cX4_served 17 = .ok (.aload_n 0, 1) := dk_42 (dk_at dksX4_served_0 17 rfl rfl)
theorem dX4_served_18 : decode cX4_served 18 = .ok (.aload_n 0, 1) := dk_42 (dk_at dksX4_served_0 18 rfl rfl)
theorem dX4_served_19 : decode cX4_served 19 = .ok (.getfield 146, 3) := dk_180 0 146 (dk_at dksX4_served_0 19 rfl rfl)
theorem dX4_served_22 : decode cX4_served 22 = .ok (.sipush 840, 3) := dk_17 3 72 (dk_at dksX4_served_1 0 rfl rfl)
theorem dX4_served_25 : decode cX4_served 25 = .ok (.iload_n 1, 1) := dk_27 (dk_at dksX4_served_1 3 rfl rfl)
theorem dX4_served_26 : decode cX4_served 26 = .ok (.iadd, 1) := dk_96 (dk_at dksX4_served_1 4 rfl rfl)
theorem dX4_served_27 : decode cX4_served 27 = .ok (.iaload, 1) := dk_46 (dk_at dksX4_served_1 5 rfl rfl)
theorem dX4_served_28 : decode cX4_served 28 = .ok (.i2l, 1) := dk_133 (dk_at dksX4_served_1 6 rfl rfl)
theorem dX4_served_29 : decode cX4_served 29 = .ok (.invokevirtual 345, 3) := dk_182 1 89 (dk_at dksX4_served_1 7 rfl rfl)
theorem dX4_served_32 : decode cX4_served 32 = .ok (.iinc 1 1, 3) := dk_132 1 1 (dk_at dksX4_served_1 10 rfl rfl)
theorem dX4_served_35 : decode cX4_served 35 = .ok (.goto (-23), 3) := dk_167 255 233 (dk_at dksX4_served_1 13 rfl rfl)
theorem dX4_served_38 : decode cX4_served 38 = .ok (.aload_n 0, 1) := dk_42 (dk_at dksX4_served_1 16 rfl rfl)
theorem dX4_served_39 : decode cX4_served 39 = .ok (.aload_n 0, 1) := dk_42 (dk_at dksX4_served_1 17 rfl rfl)
theorem dX4_served_40 : decode cX4_served 40 = .ok (.getfield 146, 3) := dk_180 0 146 (dk_at dksX4_served_1 18 rfl rfl)
theorem dX4_served_43 : decode cX4_served 43 = .ok (.sipush 840, 3) := dk_17 3 72 (dk_at dksX4_served_1 21 rfl rfl)
theorem dX4_served_46 : decode cX4_served 46 = .ok (.iaload, 1) := dk_46 (dk_at dksX4_served_2 0 rfl rfl)
theorem dX4_served_47 : decode cX4_served 47 = .ok (.i2l, 1) := dk_133 (dk_at dksX4_served_2 1 rfl rfl)
theorem dX4_served_48 : decode cX4_served 48 = .ok (.invokevirtual 345, 3) := dk_182 1 89 (dk_at dksX4_served_2 2 rfl rfl)
theorem dX4_served_51 : decode cX4_served 51 = .ok (.aload_n 0, 1) := dk_42 (dk_at dksX4_served_2 5 rfl rfl)
theorem dX4_served_52 : decode cX4_served 52 = .ok (.getfield 146, 3) := dk_180 0 146 (dk_at dksX4_served_2 6 rfl rfl)
theorem dX4_served_55 : decode cX4_served 55 = .ok (.invokestatic 332, 3) := dk_184 1 76 (dk_at dksX4_served_2 9 rfl rfl)
theorem dX4_served_58 : decode cX4_served 58 = .ok (.aload_n 0, 1) := dk_42 (dk_at dksX4_served_2 12 rfl rfl)
theorem dX4_served_59 : decode cX4_served 59 = .ok (.getfield 146, 3) := dk_180 0 146 (dk_at dksX4_served_2 13 rfl rfl)
theorem dX4_served_62 : decode cX4_served 62 = .ok (.sipush 840, 3) := dk_17 3 72 (dk_at dksX4_served_2 16 rfl rfl)
theorem dX4_served_65 : decode cX4_served 65 = .ok (.iaload, 1) := dk_46 (dk_at dksX4_served_2 19 rfl rfl)
theorem dX4_served_66 : decode cX4_served 66 = .ok (.isub, 1) := dk_100 (dk_at dksX4_served_2 20 rfl rfl)
theorem dX4_served_67 : decode cX4_served 67 = .ok (.ireturn, 1) := dk_172 (dk_at dksX4_served_2 21 rfl rfl)
abbrev cX4_heard : ByteArray := prog_13_method_105_code
def yX4_heard : MethodName := ⟨RX4, "heard", "(II)I"⟩
def dkwX4_heard_3 : List UInt8 := [181, 1, 171, 42, 180, 1, 171, 172]
abbrev dktX4_heard_3 : List UInt8 := dkwX4_heard_3 ++ []
def dkwX4_heard_2 : List UInt8 := [180, 1, 171, 27, 79, 42, 180, 0, 179, 42, 180, 1, 171, 28, 79, 42, 89, 180, 1, 171, 4, 96]
abbrev dktX4_heard_2 : List UInt8 := dkwX4_heard_2 ++ dktX4_heard_3
def dkwX4_heard_1 : List UInt8 := [133, 184, 0, 21, 153, 0, 12, 42, 180, 1, 171, 16, 12, 160, 0, 5, 2, 172, 42, 180, 0, 176, 42]
abbrev dktX4_heard_1 : List UInt8 := dkwX4_heard_1 ++ dktX4_heard_2
def dkwX4_heard_0 : List UInt8 := [42, 3, 181, 0, 3, 27, 133, 9, 20, 0, 224, 184, 0, 21, 153, 0, 26, 28, 133, 9, 27, 184, 1, 168]
abbrev dktX4_heard_0 : List UInt8 := dkwX4_heard_0 ++ dktX4_heard_1
theorem dksX4_heard_0 : cX4_heard.data.toList.drop 0 = dktX4_heard_0 := by decide +kernel
theorem dksX4_heard_1 : cX4_heard.data.toList.drop 24 = dktX4_heard_1 := dk_seg dksX4_heard_0 24 rfl rfl
theorem dksX4_heard_2 : cX4_heard.data.toList.drop 47 = dktX4_heard_2 := dk_seg dksX4_heard_1 23 rfl rfl
theorem dksX4_heard_3 : cX4_heard.data.toList.drop 69 = dktX4_heard_3 := dk_seg dksX4_heard_2 22 rfl rfl
theorem dX4_heard_0 : decode cX4_heard 0 = .ok (.aload_n 0, 1) := dk_42 (dk_at dksX4_heard_0 0 rfl rfl)
theorem dX4_heard_1 : decode cX4_heard 1 = .ok (.iconst 0, 1) := dk_3 (dk_at dksX4_heard_0 1 rfl rfl)
theorem dX4_heard_2 : decode cX4_heard 2 = .ok (.putfield 3, 3) := dk_181 0 3 (dk_at dksX4_heard_0 2 rfl rfl)
theorem dX4_heard_5 : decode cX4_heard 5 = .ok (.iload_n 1, 1) := dk_27 (dk_at dksX4_heard_0 5 rfl rfl)
theorem dX4_heard_6 : decode cX4_heard 6 = .ok (.i2l, 1) := dk_133 (dk_at dksX4_heard_0 6 rfl rfl)
theorem dX4_heard_7 : decode cX4_heard 7 = .ok (.lconst 0, 1) := dk_9 (dk_at dksX4_heard_0 7 rfl rfl)
theorem dX4_heard_8 : decode cX4_heard 8 = .ok (.ldc2_w 224, 3) := dk_20 0 224 (dk_at dksX4_heard_0 8 rfl rfl)
theorem dX4_heard_11 : decode cX4_heard 11 = .ok (.invokestatic 21, 3) := dk_184 0 21 (dk_at dksX4_heard_0 11 rfl rfl)
theorem dX4_heard_14 : decode cX4_heard 14 = .ok (.ifCond .eq 26, 3) := dk_153 0 26 (dk_at dksX4_heard_0 14 rfl rfl)
theorem dX4_heard_17 : decode cX4_heard 17 = .ok (.iload_n 2, 1) := dk_28 (dk_at dksX4_heard_0 17 rfl rfl)
theorem dX4_heard_18 : decode cX4_heard 18 = .ok (.i2l, 1) := dk_133 (dk_at dksX4_heard_0 18 rfl rfl)
theorem dX4_heard_19 : decode cX4_heard 19 = .ok (.lconst 0, 1) := dk_9 (dk_at dksX4_heard_0 19 rfl rfl)
theorem dX4_heard_20 : decode cX4_heard 20 = .ok (.iload_n 1, 1) := dk_27 (dk_at dksX4_heard_0 20 rfl rfl)
theorem dX4_heard_21 : decode cX4_heard 21 = .ok (.invokestatic 424, 3) := dk_184 1 168 (dk_at dksX4_heard_0 21 rfl rfl)
theorem dX4_heard_24 : decode cX4_heard 24 = .ok (.i2l, 1) := dk_133 (dk_at dksX4_heard_1 0 rfl rfl)
theorem dX4_heard_25 : decode cX4_heard 25 = .ok (.invokestatic 21, 3) := dk_184 0 21 (dk_at dksX4_heard_1 1 rfl rfl)
theorem dX4_heard_28 : decode cX4_heard 28 = .ok (.ifCond .eq 12, 3) := dk_153 0 12 (dk_at dksX4_heard_1 4 rfl rfl)
theorem dX4_heard_31 : decode cX4_heard 31 = .ok (.aload_n 0, 1) := dk_42 (dk_at dksX4_heard_1 7 rfl rfl)
theorem dX4_heard_32 : decode cX4_heard 32 = .ok (.getfield 427, 3) := dk_180 1 171 (dk_at dksX4_heard_1 8 rfl rfl)
theorem dX4_heard_35 : decode cX4_heard 35 = .ok (.bipush 12, 2) := dk_16 12 (dk_at dksX4_heard_1 11 rfl rfl)
theorem dX4_heard_37 : decode cX4_heard 37 = .ok (.if_icmp .ne 5, 3) := dk_160 0 5 (dk_at dksX4_heard_1 13 rfl rfl)
theorem dX4_heard_40 : decode cX4_heard 40 = .ok (.iconst (-1), 1) := dk_2 (dk_at dksX4_heard_1 16 rfl rfl)
theorem dX4_heard_41 : decode cX4_heard 41 = .ok (.ireturn, 1) := dk_172 (dk_at dksX4_heard_1 17 rfl rfl)
theorem dX4_heard_42 : decode cX4_heard 42 = .ok (.aload_n 0, 1) := dk_42 (dk_at dksX4_heard_1 18 rfl rfl)
theorem dX4_heard_43 : decode cX4_heard 43 = .ok (.getfield 176, 3) := dk_180 0 176 (dk_at dksX4_heard_1 19 rfl rfl)
theorem dX4_heard_46 : decode cX4_heard 46 = .ok (.aload_n 0, 1) := dk_42 (dk_at dksX4_heard_1 22 rfl rfl)
theorem dX4_heard_47 : decode cX4_heard 47 = .ok (.getfield 427, 3) := dk_180 1 171 (dk_at dksX4_heard_2 0 rfl rfl)
theorem dX4_heard_50 : decode cX4_heard 50 = .ok (.iload_n 1, 1) := dk_27 (dk_at dksX4_heard_2 3 rfl rfl)
theorem dX4_heard_51 : decode cX4_heard 51 = .ok (.iastore, 1) := dk_79 (dk_at dksX4_heard_2 4 rfl rfl)
theorem dX4_heard_52 : decode cX4_heard 52 = .ok (.aload_n 0, 1) := dk_42 (dk_at dksX4_heard_2 5 rfl rfl)
theorem dX4_heard_53 : decode cX4_heard 53 = .ok (.getfield 179, 3) := dk_180 0 179 (dk_at dksX4_heard_2 6 rfl rfl)
theorem dX4_heard_56 : decode cX4_heard 56 = .ok (.aload_n 0, 1) := dk_42 (dk_at dksX4_heard_2 9 rfl rfl)
theorem dX4_heard_57 : decode cX4_heard 57 = .ok (.getfield 427, 3) := dk_180 1 171 (dk_at dksX4_heard_2 10 rfl rfl)
theorem dX4_heard_60 : decode cX4_heard 60 = .ok (.iload_n 2, 1) := dk_28 (dk_at dksX4_heard_2 13 rfl rfl)
theorem dX4_heard_61 : decode cX4_heard 61 = .ok (.iastore, 1) := dk_79 (dk_at dksX4_heard_2 14 rfl rfl)
theorem dX4_heard_62 : decode cX4_heard 62 = .ok (.aload_n 0, 1) := dk_42 (dk_at dksX4_heard_2 15 rfl rfl)
theorem dX4_heard_63 : decode cX4_heard 63 = .ok (.dup, 1) := dk_89 (dk_at dksX4_heard_2 16 rfl rfl)
theorem dX4_heard_64 : decode cX4_heard 64 = .ok (.getfield 427, 3) := dk_180 1 171 (dk_at dksX4_heard_2 17 rfl rfl)
theorem dX4_heard_67 : decode cX4_heard 67 = .ok (.iconst 1, 1) := dk_4 (dk_at dksX4_heard_2 20 rfl rfl)
theorem dX4_heard_68 : decode cX4_heard 68 = .ok (.iadd, 1) := dk_96 (dk_at dksX4_heard_2 21 rfl rfl)
theorem dX4_heard_69 : decode cX4_heard 69 = .ok (.putfield 427, 3) := dk_181 1 171 (dk_at dksX4_heard_3 0 rfl rfl)
theorem dX4_heard_72 : decode cX4_heard 72 = .ok (.aload_n 0, 1) := dk_42 (dk_at dksX4_heard_3 3 rfl rfl)
theorem dX4_heard_73 : decode cX4_heard 73 = .ok (.getfield 427, 3) := dk_180 1 171 (dk_at dksX4_heard_3 4 rfl rfl)
theorem dX4_heard_76 : decode cX4_heard 76 = .ok (.ireturn, 1) := dk_172 (dk_at dksX4_heard_3 7 rfl rfl)
abbrev cX4_highest : ByteArray := prog_13_method_104_code
def yX4_highest : MethodName := ⟨RX4, "highest", "(I)I"⟩
def dkwX4_highest_0 : List UInt8 := [26, 5, 160, 0, 8, 16, 9, 167, 0, 13, 26, 6, 160, 0, 7, 4, 167, 0, 4, 7, 172]
abbrev dktX4_highest_0 : List UInt8 := dkwX4_highest_0 ++ []
theorem dksX4_highest_0 : cX4_highest.data.toList.drop 0 = dktX4_highest_0 := by decide +kernel
theorem dX4_highest_0 : decode cX4_highest 0 = .ok (.iload_n 0, 1) := dk_26 (dk_at dksX4_highest_0 0 rfl rfl)
theorem dX4_highest_1 : decode cX4_highest 1 = .ok (.iconst 2, 1) := dk_5 (dk_at dksX4_highest_0 1 rfl rfl)
theorem dX4_highest_2 : decode cX4_highest 2 = .ok (.if_icmp .ne 8, 3) := dk_160 0 8 (dk_at dksX4_highest_0 2 rfl rfl)
theorem dX4_highest_5 : decode cX4_highest 5 = .ok (.bipush 9, 2) := dk_16 9 (dk_at dksX4_highest_0 5 rfl rfl)
theorem dX4_highest_7 : decode cX4_highest 7 = .ok (.goto 13, 3) := dk_167 0 13 (dk_at dksX4_highest_0 7 rfl rfl)
theorem dX4_highest_10 : decode cX4_highest 10 = .ok (.iload_n 0, 1) := dk_26 (dk_at dksX4_highest_0 10 rfl rfl)
theorem dX4_highest_11 : decode cX4_highest 11 = .ok (.iconst 3, 1) := dk_6 (dk_at dksX4_highest_0 11 rfl rfl)
theorem dX4_highest_12 : decode cX4_highest 12 = .ok (.if_icmp .ne 7, 3) := dk_160 0 7 (dk_at dksX4_highest_0 12 rfl rfl)
theorem dX4_highest_15 : decode cX4_highest 15 = .ok (.iconst 1, 1) := dk_4 (dk_at dksX4_highest_0 15 rfl rfl)
theorem dX4_highest_16 : decode cX4_highest 16 = .ok (.goto 4, 3) := dk_167 0 4 (dk_at dksX4_highest_0 16 rfl rfl)
theorem dX4_highest_19 : decode cX4_highest 19 = .ok (.iconst 4, 1) := dk_7 (dk_at dksX4_highest_0 19 rfl rfl)
theorem dX4_highest_20 : decode cX4_highest 20 = .ok (.ireturn, 1) := dk_172 (dk_at dksX4_highest_0 20 rfl rfl)
abbrev cX4_denies : ByteArray := prog_13_method_106_code
def yX4_denies : MethodName := ⟨RX4, "denies", "()I"⟩
def dkwX4_denies_0 : List UInt8 := [42, 3, 181, 0, 3, 42, 180, 1, 171, 60, 42, 3, 181, 1, 171, 27, 172]
abbrev dktX4_denies_0 : List UInt8 := dkwX4_denies_0 ++ []
theorem dksX4_denies_0 : cX4_denies.data.toList.drop 0 = dktX4_denies_0 := by decide +kernel
theorem dX4_denies_0 : decode cX4_denies 0 = .ok (.aload_n 0, 1) := dk_42 (dk_at dksX4_denies_0 0 rfl rfl)
theorem dX4_denies_1 : decode cX4_denies 1 = .ok (.iconst 0, 1) := dk_3 (dk_at dksX4_denies_0 1 rfl rfl)
theorem dX4_denies_2 : decode cX4_denies 2 = .ok (.putfield 3, 3) := dk_181 0 3 (dk_at dksX4_denies_0 2 rfl rfl)
theorem dX4_denies_5 : decode cX4_denies 5 = .ok (.aload_n 0, 1) := dk_42 (dk_at dksX4_denies_0 5 rfl rfl)
theorem dX4_denies_6 : decode cX4_denies 6 = .ok (.getfield 427, 3) := dk_180 1 171 (dk_at dksX4_denies_0 6 rfl rfl)
theorem dX4_denies_9 : decode cX4_denies 9 = .ok (.istore_n 1, 1) := dk_60 (dk_at dksX4_denies_0 9 rfl rfl)
theorem dX4_denies_10 : decode cX4_denies 10 = .ok (.aload_n 0, 1) := dk_42 (dk_at dksX4_denies_0 10 rfl rfl)
theorem dX4_denies_11 : decode cX4_denies 11 = .ok (.iconst 0, 1) := dk_3 (dk_at dksX4_denies_0 11 rfl rfl)
theorem dX4_denies_12 : decode cX4_denies 12 = .ok (.putfield 427, 3) := dk_181 1 171 (dk_at dksX4_denies_0 12 rfl rfl)
theorem dX4_denies_15 : decode cX4_denies 15 = .ok (.iload_n 1, 1) := dk_27 (dk_at dksX4_denies_0 15 rfl rfl)
theorem dX4_denies_16 : decode cX4_denies 16 = .ok (.ireturn, 1) := dk_172 (dk_at dksX4_denies_0 16 rfl rfl)
abbrev cX4_fits : ByteArray := prog_13_method_110_code
def yX4_fits : MethodName := ⟨RX4, "fits", "()I"⟩
def dkwX4_fits_3 : List UInt8 := [167, 255, 210, 132, 2, 1, 167, 255, 194, 27, 172]
abbrev dktX4_fits_3 : List UInt8 := dkwX4_fits_3 ++ []
def dkwX4_fits_2 : List UInt8 := [28, 133, 182, 1, 89, 42, 29, 133, 182, 1, 89, 27, 21, 4, 184, 0, 40, 96, 60, 132, 3, 1]
abbrev dktX4_fits_2 : List UInt8 := dkwX4_fits_2 ++ dktX4_fits_3
def dkwX4_fits_1 : List UInt8 := [29, 16, 16, 162, 0, 46, 42, 28, 29, 182, 1, 181, 54, 4, 21, 4, 153, 0, 19, 27, 154, 0, 15, 42]
abbrev dktX4_fits_1 : List UInt8 := dkwX4_fits_1 ++ dktX4_fits_2
def dkwX4_fits_0 : List UInt8 := [42, 3, 181, 0, 3, 3, 60, 42, 3, 181, 0, 11, 3, 61, 28, 42, 180, 0, 198, 162, 0, 60, 3, 62]
abbrev dktX4_fits_0 : List UInt8 := dkwX4_fits_0 ++ dktX4_fits_1
theorem dksX4_fits_0 : cX4_fits.data.toList.drop 0 = dktX4_fits_0 := by decide +kernel
theorem dksX4_fits_1 : cX4_fits.data.toList.drop 24 = dktX4_fits_1 := dk_seg dksX4_fits_0 24 rfl rfl
theorem dksX4_fits_2 : cX4_fits.data.toList.drop 48 = dktX4_fits_2 := dk_seg dksX4_fits_1 24 rfl rfl
theorem dksX4_fits_3 : cX4_fits.data.toList.drop 70 = dktX4_fits_3 := dk_seg dksX4_fits_2 22 rfl rfl
theorem dX4_fits_0 : decode cX4_fits 0 = .ok (.aload_n 0, 1) := dk_42 (dk_at dksX4_fits_0 0 rfl rfl)
theorem dX4_fits_1 : decode cX4_fits 1 = .ok (.iconst 0, 1) := dk_3 (dk_at dksX4_fits_0 1 rfl rfl)
theorem dX4_fits_2 : decode cX4_fits 2 = .ok (.putfield 3, 3) := dk_181 0 3 (dk_at dksX4_fits_0 2 rfl rfl)
theorem dX4_fits_5 : decode cX4_fits 5 = .ok (.iconst 0, 1) := dk_3 (dk_at dksX4_fits_0 5 rfl rfl)
theorem dX4_fits_6 : decode cX4_fits 6 = .ok (.istore_n 1, 1) := dk_60 (dk_at dksX4_fits_0 6 rfl rfl)
theorem dX4_fits_7 : decode cX4_fits 7 = .ok (.aload_n 0, 1) := dk_42 (dk_at dksX4_fits_0 7 rfl rfl)
theorem dX4_fits_8 : decode cX4_fits 8 = .ok (.iconst 0, 1) := dk_3 (dk_at dksX4_fits_0 8 rfl rfl)
theorem dX4_fits_9 : decode cX4_fits 9 = .ok (.putfield 11, 3) := dk_181 0 11 (dk_at dksX4_fits_0 9 rfl rfl)
theorem dX4_fits_12 : decode cX4_fits 12 = .ok (.iconst 0, 1) := dk_3 (dk_at dksX4_fits_0 12 rfl rfl)
theorem dX4_fits_13 : decode cX4_fits 13 = .ok (.istore_n 2, 1) := dk_61 (dk_at dksX4_fits_0 13 rfl rfl)
theorem dX4_fits_14 : decode cX4_fits 14 = .ok (.iload_n 2, 1) := dk_28 (dk_at dksX4_fits_0 14 rfl rfl)
theorem dX4_fits_15 : decode cX4_fits 15 = .ok (.aload_n 0, 1) := dk_42 (dk_at dksX4_fits_0 15 rfl rfl)
theorem dX4_fits_16 : decode cX4_fits 16 = .ok (.getfield 198, 3) := dk_180 0 198 (dk_at dksX4_fits_0 16 rfl rfl)
theorem dX4_fits_19 : decode cX4_fits 19 = .ok (.if_icmp .ge 60, 3) := dk_162 0 60 (dk_at dksX4_fits_0 19 rfl rfl)
theorem dX4_fits_22 : decode cX4_fits 22 = .ok (.iconst 0, 1) := dk_3 (dk_at dksX4_fits_0 22 rfl rfl)
theorem dX4_fits_23 : decode cX4_fits 23 = .ok (.istore_n 3, 1) := dk_62 (dk_at dksX4_fits_0 23 rfl rfl)
theorem dX4_fits_24 : decode cX4_fits 24 = .ok (.iload_n 3, 1) := dk_29 (dk_at dksX4_fits_1 0 rfl rfl)
theorem dX4_fits_25 : decode cX4_fits 25 = .ok (.bipush 16, 2) := dk_16 16 (dk_at dksX4_fits_1 1 rfl rfl)
theorem dX4_fits_27 : decode cX4_fits 27 = .ok (.if_icmp .ge 46, 3) := dk_162 0 46 (dk_at dksX4_fits_1 3 rfl rfl)
theorem dX4_fits_30 : decode cX4_fits 30 = .ok (.aload_n 0, 1) := dk_42 (dk_at dksX4_fits_1 6 rfl rfl)
theorem dX4_fits_31 : decode cX4_fits 31 = .ok (.iload_n 2, 1) := dk_28 (dk_at dksX4_fits_1 7 rfl rfl)
theorem dX4_fits_32 : decode cX4_fits 32 = .ok (.iload_n 3, 1) := dk_29 (dk_at dksX4_fits_1 8 rfl rfl)
theorem dX4_fits_33 : decode cX4_fits 33 = .ok (.invokevirtual 437, 3) := dk_182 1 181 (dk_at dksX4_fits_1 9 rfl rfl)
theorem dX4_fits_36 : decode cX4_fits 36 = .ok (.istore 4, 2) := dk_54 4 (dk_at dksX4_fits_1 12 rfl rfl)
theorem dX4_fits_38 : decode cX4_fits 38 = .ok (.iload 4, 2) := dk_21 4 (dk_at dksX4_fits_1 14 rfl rfl)
theorem dX4_fits_40 : decode cX4_fits 40 = .ok (.ifCond .eq 19, 3) := dk_153 0 19 (dk_at dksX4_fits_1 16 rfl rfl)
theorem dX4_fits_43 : decode cX4_fits 43 = .ok (.iload_n 1, 1) := dk_27 (dk_at dksX4_fits_1 19 rfl rfl)
theorem dX4_fits_44 : decode cX4_fits 44 = .ok (.ifCond .ne 15, 3) := dk_154 0 15 (dk_at dksX4_fits_1 20 rfl rfl)
theorem dX4_fits_47 : decode cX4_fits 47 = .ok (.aload_n 0, 1) := dk_42 (dk_at dksX4_fits_1 23 rfl rfl)
theorem dX4_fits_48 : decode cX4_fits 48 = .ok (.iload_n 2, 1) := dk_28 (dk_at dksX4_fits_2 0 rfl rfl)
theorem dX4_fits_49 : decode cX4_fits 49 = .ok (.i2l, 1) := dk_133 (dk_at dksX4_fits_2 1 rfl rfl)
theorem dX4_fits_50 : decode cX4_fits 50 = .ok (.invokevirtual 345, 3) := dk_182 1 89 (dk_at dksX4_fits_2 2 rfl rfl)
theorem dX4_fits_53 : decode cX4_fits 53 = .ok (.aload_n 0, 1) := dk_42 (dk_at dksX4_fits_2 5 rfl rfl)
theorem dX4_fits_54 : decode cX4_fits 54 = .ok (.iload_n 3, 1) := dk_29 (dk_at dksX4_fits_2 6 rfl rfl)
theorem dX4_fits_55 : decode cX4_fits 55 = .ok (.i2l, 1) := dk_133 (dk_at dksX4_fits_2 7 rfl rfl)
theorem dX4_fits_56 : decode cX4_fits 56 = .ok (.invokevirtual 345, 3) := dk_182 1 89 (dk_at dksX4_fits_2 8 rfl rfl)
theorem dX4_fits_59 : decode cX4_fits 59 = .ok (.iload_n 1, 1) := dk_27 (dk_at dksX4_fits_2 11 rfl rfl)
theorem dX4_fits_60 : decode cX4_fits 60 = .ok (.iload 4, 2) := dk_21 4 (dk_at dksX4_fits_2 12 rfl rfl)
theorem dX4_fits_62 : decode cX4_fits 62 = .ok (.invokestatic 40, 3) := dk_184 0 40 (dk_at dksX4_fits_2 14 rfl rfl)
theorem dX4_fits_65 : decode cX4_fits 65 = .ok (.iadd, 1) := dk_96 (dk_at dksX4_fits_2 17 rfl rfl)
theorem dX4_fits_66 : decode cX4_fits 66 = .ok (.istore_n 1, 1) := dk_60 (dk_at dksX4_fits_2 18 rfl rfl)
theorem dX4_fits_67 : decode cX4_fits 67 = .ok (.iinc 3 1, 3) := dk_132 3 1 (dk_at dksX4_fits_2 19 rfl rfl)
theorem dX4_fits_70 : decode cX4_fits 70 = .ok (.goto (-46), 3) := dk_167 255 210 (dk_at dksX4_fits_3 0 rfl rfl)
theorem dX4_fits_73 : decode cX4_fits 73 = .ok (.iinc 2 1, 3) := dk_132 2 1 (dk_at dksX4_fits_3 3 rfl rfl)
theorem dX4_fits_76 : decode cX4_fits 76 = .ok (.goto (-62), 3) := dk_167 255 194 (dk_at dksX4_fits_3 6 rfl rfl)
theorem dX4_fits_79 : decode cX4_fits 79 = .ok (.iload_n 1, 1) := dk_27 (dk_at dksX4_fits_3 9 rfl rfl)
theorem dX4_fits_80 : decode cX4_fits 80 = .ok (.ireturn, 1) := dk_172 (dk_at dksX4_fits_3 10 rfl rfl)
abbrev cX4_isFitting : ByteArray := prog_13_method_109_code
def yX4_isFitting : MethodName := ⟨RX4, "isFitting", "(II)Z"⟩
def dkwX4_isFitting_2 : List UInt8 := [182, 1, 177, 62, 132, 4, 1, 167, 255, 219, 29, 172]
abbrev dktX4_isFitting_2 : List UInt8 := dkwX4_isFitting_2 ++ []
def dkwX4_isFitting_1 : List UInt8 := [162, 0, 34, 29, 153, 0, 30, 42, 27, 28, 42, 180, 0, 176, 21, 4, 46, 42, 180, 0, 179, 21, 4, 46]
abbrev dktX4_isFitting_1 : List UInt8 := dkwX4_isFitting_1 ++ dktX4_isFitting_2
def dkwX4_isFitting_0 : List UInt8 := [42, 27, 28, 182, 1, 174, 155, 0, 7, 4, 167, 0, 4, 3, 62, 3, 54, 4, 21, 4, 42, 180, 1, 171]
abbrev dktX4_isFitting_0 : List UInt8 := dkwX4_isFitting_0 ++ dktX4_isFitting_1
theorem dksX4_isFitting_0 : cX4_isFitting.data.toList.drop 0 = dktX4_isFitting_0 := by decide +kernel
theorem dksX4_isFitting_1 : cX4_isFitting.data.toList.drop 24 = dktX4_isFitting_1 := dk_seg dksX4_isFitting_0 24 rfl rfl
theorem dksX4_isFitting_2 : cX4_isFitting.data.toList.drop 48 = dktX4_isFitting_2 := dk_seg dksX4_isFitting_1 24 rfl rfl
theorem dX4_isFitting_0 : decode cX4_isFitting 0 = .ok (.aload_n 0, 1) := dk_42 (dk_at dksX4_isFitting_0 0 rfl rfl)
theorem dX4_isFitting_1 : decode cX4_isFitting 1 = .ok (.iload_n 1, 1) := dk_27 (dk_at dksX4_isFitting_0 1 rfl rfl)
theorem dX4_isFitting_2 : decode cX4_isFitting 2 = .ok (.iload_n 2, 1) := dk_28 (dk_at dksX4_isFitting_0 2 rfl rfl)
theorem dX4_isFitting_3 : decode cX4_isFitting 3 = .ok (.invokevirtual 430, 3) := dk_182 1 174 (dk_at dksX4_isFitting_0 3 rfl rfl)
theorem dX4_isFitting_6 : decode cX4_isFitting 6 = .ok (.ifCond .lt 7, 3) := dk_155 0 7 (dk_at dksX4_isFitting_0 6 rfl rfl)
theorem dX4_isFitting_9 : decode cX4_isFitting 9 = .ok (.iconst 1, 1) := dk_4 (dk_at dksX4_isFitting_0 9 rfl rfl)
theorem dX4_isFitting_10 : decode cX4_isFitting 10 = .ok (.goto 4, 3) := dk_167 0 4 (dk_at dksX4_isFitting_0 10 rfl rfl)
theorem dX4_isFitting_13 : decode cX4_isFitting 13 = .ok (.iconst 0, 1) := dk_3 (dk_at dksX4_isFitting_0 13 rfl rfl)
theorem dX4_isFitting_14 : decode cX4_isFitting 14 = .ok (.istore_n 3, 1) := dk_62 (dk_at dksX4_isFitting_0 14 rfl rfl)
theorem dX4_isFitting_15 : decode cX4_isFitting 15 = .ok (.iconst 0, 1) := dk_3 (dk_at dksX4_isFitting_0 15 rfl rfl)
theorem dX4_isFitting_16 : decode cX4_isFitting 16 = .ok (.istore 4, 2) := dk_54 4 (dk_at dksX4_isFitting_0 16 rfl rfl)
theorem dX4_isFitting_18 : decode cX4_isFitting 18 = .ok (.iload 4, 2) := dk_21 4 (dk_at dksX4_isFitting_0 18 rfl rfl)
theorem dX4_isFitting_20 : decode cX4_isFitting 20 = .ok (.aload_n 0, 1) := dk_42 (dk_at dksX4_isFitting_0 20 rfl rfl)
theorem dX4_isFitting_21 : decode cX4_isFitting 21 = .ok (.getfield 427, 3) := dk_180 1 171 (dk_at dksX4_isFitting_0 21 rfl rfl)
theorem dX4_isFitting_24 : decode cX4_isFitting 24 = .ok (.if_icmp .ge 34, 3) := dk_162 0 34 (dk_at dksX4_isFitting_1 0 rfl rfl)
theorem dX4_isFitting_27 : decode cX4_isFitting 27 = .ok (.iload_n 3, 1) := dk_29 (dk_at dksX4_isFitting_1 3 rfl rfl)
theorem dX4_isFitting_28 : decode cX4_isFitting 28 = .ok (.ifCond .eq 30, 3) := dk_153 0 30 (dk_at dksX4_isFitting_1 4 rfl rfl)
theorem dX4_isFitting_31 : decode cX4_isFitting 31 = .ok (.aload_n 0, 1) := dk_42 (dk_at dksX4_isFitting_1 7 rfl rfl)
theorem dX4_isFitting_32 : decode cX4_isFitting 32 = .ok (.iload_n 1, 1) := dk_27 (dk_at dksX4_isFitting_1 8 rfl rfl)
theorem dX4_isFitting_33 : decode cX4_isFitting 33 = .ok (.iload_n 2, 1) := dk_28 (dk_at dksX4_isFitting_1 9 rfl rfl)
theorem dX4_isFitting_34 : decode cX4_isFitting 34 = .ok (.aload_n 0, 1) := dk_42 (dk_at dksX4_isFitting_1 10 rfl rfl)
theorem dX4_isFitting_35 : decode cX4_isFitting 35 = .ok (.getfield 176, 3) := dk_180 0 176 (dk_at dksX4_isFitting_1 11 rfl rfl)
theorem dX4_isFitting_38 : decode cX4_isFitting 38 = .ok (.iload 4, 2) := dk_21 4 (dk_at dksX4_isFitting_1 14 rfl rfl)
theorem dX4_isFitting_40 : decode cX4_isFitting 40 = .ok (.iaload, 1) := dk_46 (dk_at dksX4_isFitting_1 16 rfl rfl)
theorem dX4_isFitting_41 : decode cX4_isFitting 41 = .ok (.aload_n 0, 1) := dk_42 (dk_at dksX4_isFitting_1 17 rfl rfl)
theorem dX4_isFitting_42 : decode cX4_isFitting 42 = .ok (.getfield 179, 3) := dk_180 0 179 (dk_at dksX4_isFitting_1 18 rfl rfl)
theorem dX4_isFitting_45 : decode cX4_isFitting 45 = .ok (.iload 4, 2) := dk_21 4 (dk_at dksX4_isFitting_1 21 rfl rfl)
theorem dX4_isFitting_47 : decode cX4_isFitting 47 = .ok (.iaload, 1) := dk_46 (dk_at dksX4_isFitting_1 23 rfl rfl)
theorem dX4_isFitting_48 : decode cX4_isFitting 48 = .ok (.invokevirtual 433, 3) := dk_182 1 177 (dk_at dksX4_isFitting_2 0 rfl rfl)
theorem dX4_isFitting_51 : decode cX4_isFitting 51 = .ok (.istore_n 3, 1) := dk_62 (dk_at dksX4_isFitting_2 3 rfl rfl)
theorem dX4_isFitting_52 : decode cX4_isFitting 52 = .ok (.iinc 4 1, 3) := dk_132 4 1 (dk_at dksX4_isFitting_2 4 rfl rfl)
theorem dX4_isFitting_55 : decode cX4_isFitting 55 = .ok (.goto (-37), 3) := dk_167 255 219 (dk_at dksX4_isFitting_2 7 rfl rfl)
theorem dX4_isFitting_58 : decode cX4_isFitting 58 = .ok (.iload_n 3, 1) := dk_29 (dk_at dksX4_isFitting_2 10 rfl rfl)
theorem dX4_isFitting_59 : decode cX4_isFitting 59 = .ok (.ireturn, 1) := dk_172 (dk_at dksX4_isFitting_2 11 rfl rfl)
abbrev cX4_commandAt : ByteArray := prog_13_method_107_code
def yX4_commandAt : MethodName := ⟨RX4, "commandAt", "(II)I"⟩
def dkwX4_commandAt_3 : List UInt8 := [167, 0, 11, 21, 4, 184, 0, 236, 16, 6, 96, 172]
abbrev dktX4_commandAt_3 : List UInt8 := dkwX4_commandAt_3 ++ []
def dkwX4_commandAt_2 : List UInt8 := [21, 4, 184, 0, 236, 4, 96, 54, 5, 42, 180, 0, 146, 21, 5, 3, 96, 46, 28, 160, 0, 8, 21, 5]
abbrev dktX4_commandAt_2 : List UInt8 := dkwX4_commandAt_2 ++ dktX4_commandAt_3
def dkwX4_commandAt_1 : List UInt8 := [29, 96, 184, 0, 239, 172, 42, 180, 0, 146, 27, 28, 184, 0, 255, 54, 4, 21, 4, 156, 0, 5, 2, 172]
abbrev dktX4_commandAt_1 : List UInt8 := dkwX4_commandAt_1 ++ dktX4_commandAt_2
def dkwX4_commandAt_0 : List UInt8 := [42, 180, 0, 146, 27, 28, 184, 0, 252, 62, 29, 155, 0, 19, 27, 42, 180, 0, 146, 27, 6, 184, 0, 220]
abbrev dktX4_commandAt_0 : List UInt8 := dkwX4_commandAt_0 ++ dktX4_commandAt_1
theorem dksX4_commandAt_0 : cX4_commandAt.data.toList.drop 0 = dktX4_commandAt_0 := by decide +kernel
theorem dksX4_commandAt_1 : cX4_commandAt.data.toList.drop 24 = dktX4_commandAt_1 := dk_seg dksX4_commandAt_0 24 rfl rfl
theorem dksX4_commandAt_2 : cX4_commandAt.data.toList.drop 48 = dktX4_commandAt_2 := dk_seg dksX4_commandAt_1 24 rfl rfl
theorem dksX4_commandAt_3 : cX4_commandAt.data.toList.drop 72 = dktX4_commandAt_3 := dk_seg dksX4_commandAt_2 24 rfl rfl
theorem dX4_commandAt_0 : decode cX4_commandAt 0 = .ok (.aload_n 0, 1) := dk_42 (dk_at dksX4_commandAt_0 0 rfl rfl)
theorem dX4_commandAt_1 : decode cX4_commandAt 1 = .ok (.getfield 146, 3) := dk_180 0 146 (dk_at dksX4_commandAt_0 1 rfl rfl)
theorem dX4_commandAt_4 : decode cX4_commandAt 4 = .ok (.iload_n 1, 1) := dk_27 (dk_at dksX4_commandAt_0 4 rfl rfl)
theorem dX4_commandAt_5 : decode cX4_commandAt 5 = .ok (.iload_n 2, 1) := dk_28 (dk_at dksX4_commandAt_0 5 rfl rfl)
theorem dX4_commandAt_6 : decode cX4_commandAt 6 = .ok (.invokestatic 252, 3) := dk_184 0 252 (dk_at dksX4_commandAt_0 6 rfl rfl)
theorem dX4_commandAt_9 : decode cX4_commandAt 9 = .ok (.istore_n 3, 1) := dk_62 (dk_at dksX4_commandAt_0 9 rfl rfl)
theorem dX4_commandAt_10 : decode cX4_commandAt 10 = .ok (.iload_n 3, 1) := dk_29 (dk_at dksX4_commandAt_0 10 rfl rfl)
theorem dX4_commandAt_11 : decode cX4_commandAt 11 = .ok (.ifCond .lt 19, 3) := dk_155 0 19 (dk_at dksX4_commandAt_0 11 rfl rfl)
theorem dX4_commandAt_14 : decode cX4_commandAt 14 = .ok (.iload_n 1, 1) := dk_27 (dk_at dksX4_commandAt_0 14 rfl rfl)
theorem dX4_commandAt_15 : decode cX4_commandAt 15 = .ok (.aload_n 0, 1) := dk_42 (dk_at dksX4_commandAt_0 15 rfl rfl)
theorem dX4_commandAt_16 : decode cX4_commandAt 16 = .ok (.getfield 146, 3) := dk_180 0 146 (dk_at dksX4_commandAt_0 16 rfl rfl)
theorem dX4_commandAt_19 : decode cX4_commandAt 19 = .ok (.iload_n 1, 1) := dk_27 (dk_at dksX4_commandAt_0 19 rfl rfl)
theorem dX4_commandAt_20 : decode cX4_commandAt 20 = .ok (.iconst 3, 1) := dk_6 (dk_at dksX4_commandAt_0 20 rfl rfl)
theorem dX4_commandAt_21 : decode cX4_commandAt 21 = .ok (.invokestatic 220, 3) := dk_184 0 220 (dk_at dksX4_commandAt_0 21 rfl rfl)
theorem dX4_commandAt_24 : decode cX4_commandAt 24 = .ok (.iload_n 3, 1) := dk_29 (dk_at dksX4_commandAt_1 0 rfl rfl)
theorem dX4_commandAt_25 : decode cX4_commandAt 25 = .ok (.iadd, 1) := dk_96 (dk_at dksX4_commandAt_1 1 rfl rfl)
theorem dX4_commandAt_26 : decode cX4_commandAt 26 = .ok (.invokestatic 239, 3) := dk_184 0 239 (dk_at dksX4_commandAt_1 2 rfl rfl)
theorem dX4_commandAt_29 : decode cX4_commandAt 29 = .ok (.ireturn, 1) := dk_172 (dk_at dksX4_commandAt_1 5 rfl rfl)
theorem dX4_commandAt_30 : decode cX4_commandAt 30 = .ok (.aload_n 0, 1) := dk_42 (dk_at dksX4_commandAt_1 6 rfl rfl)
theorem dX4_commandAt_31 : decode cX4_commandAt 31 = .ok (.getfield 146, 3) := dk_180 0 146 (dk_at dksX4_commandAt_1 7 rfl rfl)
theorem dX4_commandAt_34 : decode cX4_commandAt 34 = .ok (.iload_n 1, 1) := dk_27 (dk_at dksX4_commandAt_1 10 rfl rfl)
theorem dX4_commandAt_35 : decode cX4_commandAt 35 = .ok (.iload_n 2, 1) := dk_28 (dk_at dksX4_commandAt_1 11 rfl rfl)
theorem dX4_commandAt_36 : decode cX4_commandAt 36 = .ok (.invokestatic 255, 3) := dk_184 0 255 (dk_at dksX4_commandAt_1 12 rfl rfl)
theorem dX4_commandAt_39 : decode cX4_commandAt 39 = .ok (.istore 4, 2) := dk_54 4 (dk_at dksX4_commandAt_1 15 rfl rfl)
theorem dX4_commandAt_41 : decode cX4_commandAt 41 = .ok (.iload 4, 2) := dk_21 4 (dk_at dksX4_commandAt_1 17 rfl rfl)
theorem dX4_commandAt_43 : decode cX4_commandAt 43 = .ok (.ifCond .ge 5, 3) := dk_156 0 5 (dk_at dksX4_commandAt_1 19 rfl rfl)
theorem dX4_commandAt_46 : decode cX4_commandAt 46 = .ok (.iconst (-1), 1) := dk_2 (dk_at dksX4_commandAt_1 22 rfl rfl)
theorem dX4_commandAt_47 : decode cX4_commandAt 47 = .ok (.ireturn, 1) := dk_172 (dk_at dksX4_commandAt_1 23 rfl rfl)
theorem dX4_commandAt_48 : decode cX4_commandAt 48 = .ok (.iload 4, 2) := dk_21 4 (dk_at dksX4_commandAt_2 0 rfl rfl)
theorem dX4_commandAt_50 : decode cX4_commandAt 50 = .ok (.invokestatic 236, 3) := dk_184 0 236 (dk_at dksX4_commandAt_2 2 rfl rfl)
theorem dX4_commandAt_53 : decode cX4_commandAt 53 = .ok (.iconst 1, 1) := dk_4 (dk_at dksX4_commandAt_2 5 rfl rfl)
theorem dX4_commandAt_54 : decode cX4_commandAt 54 = .ok (.iadd, 1) := dk_96 (dk_at dksX4_commandAt_2 6 rfl rfl)
theorem dX4_commandAt_55 : decode cX4_commandAt 55 = .ok (.istore 5, 2) := dk_54 5 (dk_at dksX4_commandAt_2 7 rfl rfl)
theorem dX4_commandAt_57 : decode cX4_commandAt 57 = .ok (.aload_n 0, 1) := dk_42 (dk_at dksX4_commandAt_2 9 rfl rfl)
theorem dX4_commandAt_58 : decode cX4_commandAt 58 = .ok (.getfield 146, 3) := dk_180 0 146 (dk_at dksX4_commandAt_2 10 rfl rfl)
theorem dX4_commandAt_61 : decode cX4_commandAt 61 = .ok (.iload 5, 2) := dk_21 5 (dk_at dksX4_commandAt_2 13 rfl rfl)
theorem dX4_commandAt_63 : decode cX4_commandAt 63 = .ok (.iconst 0, 1) := dk_3 (dk_at dksX4_commandAt_2 15 rfl rfl)
theorem dX4_commandAt_64 : decode cX4_commandAt 64 = .ok (.iadd, 1) := dk_96 (dk_at dksX4_commandAt_2 16 rfl rfl)
theorem dX4_commandAt_65 : decode cX4_commandAt 65 = .ok (.iaload, 1) := dk_46 (dk_at dksX4_commandAt_2 17 rfl rfl)
theorem dX4_commandAt_66 : decode cX4_commandAt 66 = .ok (.iload_n 2, 1) := dk_28 (dk_at dksX4_commandAt_2 18 rfl rfl)
theorem dX4_commandAt_67 : decode cX4_commandAt 67 = .ok (.if_icmp .ne 8, 3) := dk_160 0 8 (dk_at dksX4_commandAt_2 19 rfl rfl)
theorem dX4_commandAt_70 : decode cX4_commandAt 70 = .ok (.iload 5, 2) := dk_21 5 (dk_at dksX4_commandAt_2 22 rfl rfl)
theorem dX4_commandAt_72 : decode cX4_commandAt 72 = .ok (.goto 11, 3) := dk_167 0 11 (dk_at dksX4_commandAt_3 0 rfl rfl)
theorem dX4_commandAt_75 : decode cX4_commandAt 75 = .ok (.iload 4, 2) := dk_21 4 (dk_at dksX4_commandAt_3 3 rfl rfl)
theorem dX4_commandAt_77 : decode cX4_commandAt 77 = .ok (.invokestatic 236, 3) := dk_184 0 236 (dk_at dksX4_commandAt_3 5 rfl rfl)
theorem dX4_commandAt_80 : decode cX4_commandAt 80 = .ok (.bipush 6, 2) := dk_16 6 (dk_at dksX4_commandAt_3 8 rfl rfl)
theorem dX4_commandAt_82 : decode cX4_commandAt 82 = .ok (.iadd, 1) := dk_96 (dk_at dksX4_commandAt_3 10 rfl rfl)
theorem dX4_commandAt_83 : decode cX4_commandAt 83 = .ok (.ireturn, 1) := dk_172 (dk_at dksX4_commandAt_3 11 rfl rfl)
abbrev cX4_isSo : ByteArray := prog_13_method_108_code
def yX4_isSo : MethodName := ⟨RX4, "isSo", "(IIII)Z"⟩
def dkwX4_isSo_5 : List UInt8 := [160, 0, 7, 4, 167, 0, 4, 3, 172]
abbrev dktX4_isSo_5 : List UInt8 := dkwX4_isSo_5 ++ []
def dkwX4_isSo_4 : List UInt8 := [167, 0, 4, 3, 172, 21, 5, 17, 1, 189, 161, 0, 7, 4, 167, 0, 4, 3, 184, 0, 40, 21, 4]
abbrev dktX4_isSo_4 : List UInt8 := dkwX4_isSo_4 ++ dktX4_isSo_5
def dkwX4_isSo_3 : List UInt8 := [160, 0, 7, 4, 167, 0, 4, 3, 172, 42, 180, 0, 146, 21, 5, 5, 96, 46, 21, 4, 160, 0, 7, 4]
abbrev dktX4_isSo_3 : List UInt8 := dkwX4_isSo_3 ++ dktX4_isSo_4
def dkwX4_isSo_2 : List UInt8 := [27, 21, 4, 160, 0, 7, 4, 167, 0, 4, 3, 172, 42, 180, 0, 146, 21, 5, 4, 96, 46, 21, 4]
abbrev dktX4_isSo_2 : List UInt8 := dkwX4_isSo_2 ++ dktX4_isSo_3
def dkwX4_isSo_1 : List UInt8 := [170, 0, 0, 0, 0, 0, 79, 0, 0, 0, 0, 0, 0, 0, 2, 0, 0, 0, 27, 0, 0, 0, 39, 0, 0, 0, 59]
abbrev dktX4_isSo_1 : List UInt8 := dkwX4_isSo_1 ++ dktX4_isSo_2
def dkwX4_isSo_0 : List UInt8 := [42, 27, 28, 182, 1, 174, 54, 5, 29]
abbrev dktX4_isSo_0 : List UInt8 := dkwX4_isSo_0 ++ dktX4_isSo_1
theorem dksX4_isSo_0 : cX4_isSo.data.toList.drop 0 = dktX4_isSo_0 := by decide +kernel
theorem dksX4_isSo_1 : cX4_isSo.data.toList.drop 9 = dktX4_isSo_1 := dk_seg dksX4_isSo_0 9 rfl rfl
theorem dksX4_isSo_2 : cX4_isSo.data.toList.drop 36 = dktX4_isSo_2 := dk_seg dksX4_isSo_1 27 rfl rfl
theorem dksX4_isSo_3 : cX4_isSo.data.toList.drop 59 = dktX4_isSo_3 := dk_seg dksX4_isSo_2 23 rfl rfl
theorem dksX4_isSo_4 : cX4_isSo.data.toList.drop 83 = dktX4_isSo_4 := dk_seg dksX4_isSo_3 24 rfl rfl
theorem dksX4_isSo_5 : cX4_isSo.data.toList.drop 106 = dktX4_isSo_5 := dk_seg dksX4_isSo_4 23 rfl rfl
theorem dX4_isSo_0 : decode cX4_isSo 0 = .ok (.aload_n 0, 1) := dk_42 (dk_at dksX4_isSo_0 0 rfl rfl)
theorem dX4_isSo_1 : decode cX4_isSo 1 = .ok (.iload_n 1, 1) := dk_27 (dk_at dksX4_isSo_0 1 rfl rfl)
theorem dX4_isSo_2 : decode cX4_isSo 2 = .ok (.iload_n 2, 1) := dk_28 (dk_at dksX4_isSo_0 2 rfl rfl)
theorem dX4_isSo_3 : decode cX4_isSo 3 = .ok (.invokevirtual 430, 3) := dk_182 1 174 (dk_at dksX4_isSo_0 3 rfl rfl)
theorem dX4_isSo_6 : decode cX4_isSo 6 = .ok (.istore 5, 2) := dk_54 5 (dk_at dksX4_isSo_0 6 rfl rfl)
theorem dX4_isSo_8 : decode cX4_isSo 8 = .ok (.iload_n 3, 1) := dk_29 (dk_at dksX4_isSo_0 8 rfl rfl)
theorem dX4_isSo_9 : decode cX4_isSo 9 = .ok (.tableswitch 79 0 2 #[27, 39, 59], 27) := by decide +kernel
theorem dX4_isSo_36 : decode cX4_isSo 36 = .ok (.iload_n 1, 1) := dk_27 (dk_at dksX4_isSo_2 0 rfl rfl)
theorem dX4_isSo_37 : decode cX4_isSo 37 = .ok (.iload 4, 2) := dk_21 4 (dk_at dksX4_isSo_2 1 rfl rfl)
theorem dX4_isSo_39 : decode cX4_isSo 39 = .ok (.if_icmp .ne 7, 3) := dk_160 0 7 (dk_at dksX4_isSo_2 3 rfl rfl)
theorem dX4_isSo_42 : decode cX4_isSo 42 = .ok (.iconst 1, 1) := dk_4 (dk_at dksX4_isSo_2 6 rfl rfl)
theorem dX4_isSo_43 : decode cX4_isSo 43 = .ok (.goto 4, 3) := dk_167 0 4 (dk_at dksX4_isSo_2 7 rfl rfl)
theorem dX4_isSo_46 : decode cX4_isSo 46 = .ok (.iconst 0, 1) := dk_3 (dk_at dksX4_isSo_2 10 rfl rfl)
theorem dX4_isSo_47 : decode cX4_isSo 47 = .ok (.ireturn, 1) := dk_172 (dk_at dksX4_isSo_2 11 rfl rfl)
theorem dX4_isSo_48 : decode cX4_isSo 48 = .ok (.aload_n 0, 1) := dk_42 (dk_at dksX4_isSo_2 12 rfl rfl)
theorem dX4_isSo_49 : decode cX4_isSo 49 = .ok (.getfield 146, 3) := dk_180 0 146 (dk_at dksX4_isSo_2 13 rfl rfl)
theorem dX4_isSo_52 : decode cX4_isSo 52 = .ok (.iload 5, 2) := dk_21 5 (dk_at dksX4_isSo_2 16 rfl rfl)
theorem dX4_isSo_54 : decode cX4_isSo 54 = .ok (.iconst 1, 1) := dk_4 (dk_at dksX4_isSo_2 18 rfl rfl)
theorem dX4_isSo_55 : decode cX4_isSo 55 = .ok (.iadd, 1) := dk_96 (dk_at dksX4_isSo_2 19 rfl rfl)
theorem dX4_isSo_56 : decode cX4_isSo 56 = .ok (.iaload, 1) := dk_46 (dk_at dksX4_isSo_2 20 rfl rfl)
theorem dX4_isSo_57 : decode cX4_isSo 57 = .ok (.iload 4, 2) := dk_21 4 (dk_at dksX4_isSo_2 21 rfl rfl)
theorem dX4_isSo_59 : decode cX4_isSo 59 = .ok (.if_icmp .ne 7, 3) := dk_160 0 7 (dk_at dksX4_isSo_3 0 rfl rfl)
theorem dX4_isSo_62 : decode cX4_isSo 62 = .ok (.iconst 1, 1) := dk_4 (dk_at dksX4_isSo_3 3 rfl rfl)
theorem dX4_isSo_63 : decode cX4_isSo 63 = .ok (.goto 4, 3) := dk_167 0 4 (dk_at dksX4_isSo_3 4 rfl rfl)
theorem dX4_isSo_66 : decode cX4_isSo 66 = .ok (.iconst 0, 1) := dk_3 (dk_at dksX4_isSo_3 7 rfl rfl)
theorem dX4_isSo_67 : decode cX4_isSo 67 = .ok (.ireturn, 1) := dk_172 (dk_at dksX4_isSo_3 8 rfl rfl)
theorem dX4_isSo_68 : decode cX4_isSo 68 = .ok (.aload_n 0, 1) := dk_42 (dk_at dksX4_isSo_3 9 rfl rfl)
theorem dX4_isSo_69 : decode cX4_isSo 69 = .ok (.getfield 146, 3) := dk_180 0 146 (dk_at dksX4_isSo_3 10 rfl rfl)
theorem dX4_isSo_72 : decode cX4_isSo 72 = .ok (.iload 5, 2) := dk_21 5 (dk_at dksX4_isSo_3 13 rfl rfl)
theorem dX4_isSo_74 : decode cX4_isSo 74 = .ok (.iconst 2, 1) := dk_5 (dk_at dksX4_isSo_3 15 rfl rfl)
theorem dX4_isSo_75 : decode cX4_isSo 75 = .ok (.iadd, 1) := dk_96 (dk_at dksX4_isSo_3 16 rfl rfl)
theorem dX4_isSo_76 : decode cX4_isSo 76 = .ok (.iaload, 1) := dk_46 (dk_at dksX4_isSo_3 17 rfl rfl)
theorem dX4_isSo_77 : decode cX4_isSo 77 = .ok (.iload 4, 2) := dk_21 4 (dk_at dksX4_isSo_3 18 rfl rfl)
theorem dX4_isSo_79 : decode cX4_isSo 79 = .ok (.if_icmp .ne 7, 3) := dk_160 0 7 (dk_at dksX4_isSo_3 20 rfl rfl)
theorem dX4_isSo_82 : decode cX4_isSo 82 = .ok (.iconst 1, 1) := dk_4 (dk_at dksX4_isSo_3 23 rfl rfl)
theorem dX4_isSo_83 : decode cX4_isSo 83 = .ok (.goto 4, 3) := dk_167 0 4 (dk_at dksX4_isSo_4 0 rfl rfl)
theorem dX4_isSo_86 : decode cX4_isSo 86 = .ok (.iconst 0, 1) := dk_3 (dk_at dksX4_isSo_4 3 rfl rfl)
theorem dX4_isSo_87 : decode cX4_isSo 87 = .ok (.ireturn, 1) := dk_172 (dk_at dksX4_isSo_4 4 rfl rfl)
theorem dX4_isSo_88 : decode cX4_isSo 88 = .ok (.iload 5, 2) := dk_21 5 (dk_at dksX4_isSo_4 5 rfl rfl)
theorem dX4_isSo_90 : decode cX4_isSo 90 = .ok (.sipush 445, 3) := dk_17 1 189 (dk_at dksX4_isSo_4 7 rfl rfl)
theorem dX4_isSo_93 : decode cX4_isSo 93 = .ok (.if_icmp .lt 7, 3) := dk_161 0 7 (dk_at dksX4_isSo_4 10 rfl rfl)
theorem dX4_isSo_96 : decode cX4_isSo 96 = .ok (.iconst 1, 1) := dk_4 (dk_at dksX4_isSo_4 13 rfl rfl)
theorem dX4_isSo_97 : decode cX4_isSo 97 = .ok (.goto 4, 3) := dk_167 0 4 (dk_at dksX4_isSo_4 14 rfl rfl)
theorem dX4_isSo_100 : decode cX4_isSo 100 = .ok (.iconst 0, 1) := dk_3 (dk_at dksX4_isSo_4 17 rfl rfl)
theorem dX4_isSo_101 : decode cX4_isSo 101 = .ok (.invokestatic 40, 3) := dk_184 0 40 (dk_at dksX4_isSo_4 18 rfl rfl)
theorem dX4_isSo_104 : decode cX4_isSo 104 = .ok (.iload 4, 2) := dk_21 4 (dk_at dksX4_isSo_4 21 rfl rfl)
theorem dX4_isSo_106 : decode cX4_isSo 106 = .ok (.if_icmp .ne 7, 3) := dk_160 0 7 (dk_at dksX4_isSo_5 0 rfl rfl)
theorem dX4_isSo_109 : decode cX4_isSo 109 = .ok (.iconst 1, 1) := dk_4 (dk_at dksX4_isSo_5 3 rfl rfl)
theorem dX4_isSo_110 : decode cX4_isSo 110 = .ok (.goto 4, 3) := dk_167 0 4 (dk_at dksX4_isSo_5 4 rfl rfl)
theorem dX4_isSo_113 : decode cX4_isSo 113 = .ok (.iconst 0, 1) := dk_3 (dk_at dksX4_isSo_5 7 rfl rfl)
theorem dX4_isSo_114 : decode cX4_isSo 114 = .ok (.ireturn, 1) := dk_172 (dk_at dksX4_isSo_5 8 rfl rfl)
abbrev cX4_asks : ByteArray := prog_13_method_112_code
def yX4_asks : MethodName := ⟨RX4, "asks", "()I"⟩
def dkwX4_asks_6 : List UInt8 := [167, 255, 181, 42, 3, 181, 0, 11, 42, 29, 133, 182, 1, 89, 28, 172]
abbrev dktX4_asks_6 : List UInt8 := dkwX4_asks_6 ++ []
def dkwX4_asks_5 : List UInt8 := [21, 5, 96, 167, 0, 4, 28, 61, 29, 21, 7, 184, 0, 31, 62, 132, 5, 1, 167, 255, 196, 132, 4, 1]
abbrev dktX4_asks_5 : List UInt8 := dkwX4_asks_5 ++ dktX4_asks_6
def dkwX4_asks_4 : List UInt8 := [54, 6, 21, 6, 27, 21, 6, 100, 184, 0, 226, 54, 7, 21, 7, 29, 162, 0, 14, 16, 10, 21, 4, 104]
abbrev dktX4_asks_4 : List UInt8 := dkwX4_asks_4 ++ dktX4_asks_5
def dkwX4_asks_3 : List UInt8 := [162, 0, 75, 3, 54, 5, 21, 5, 21, 4, 184, 1, 168, 163, 0, 56, 42, 21, 4, 21, 5, 182, 1, 186]
abbrev dktX4_asks_3 : List UInt8 := dkwX4_asks_3 ++ dktX4_asks_4
def dkwX4_asks_2 : List UInt8 := [167, 255, 219, 27, 154, 0, 6, 16, 254, 172, 2, 61, 19, 1, 185, 62, 3, 54, 4, 21, 4, 7]
abbrev dktX4_asks_2 : List UInt8 := dkwX4_asks_2 ++ dktX4_asks_3
def dkwX4_asks_1 : List UInt8 := [162, 0, 21, 27, 42, 28, 29, 182, 1, 181, 184, 0, 40, 96, 60, 132, 3, 1, 167, 255, 235, 132, 2, 1]
abbrev dktX4_asks_1 : List UInt8 := dkwX4_asks_1 ++ dktX4_asks_2
def dkwX4_asks_0 : List UInt8 := [42, 3, 181, 0, 3, 3, 60, 3, 61, 28, 42, 180, 0, 198, 162, 0, 35, 3, 62, 29, 16, 16]
abbrev dktX4_asks_0 : List UInt8 := dkwX4_asks_0 ++ dktX4_asks_1
theorem dksX4_asks_0 : cX4_asks.data.toList.drop 0 = dktX4_asks_0 := by decide +kernel
theorem dksX4_asks_1 : cX4_asks.data.toList.drop 22 = dktX4_asks_1 := dk_seg dksX4_asks_0 22 rfl rfl
theorem dksX4_asks_2 : cX4_asks.data.toList.drop 46 = dktX4_asks_2 := dk_seg dksX4_asks_1 24 rfl rfl
theorem dksX4_asks_3 : cX4_asks.data.toList.drop 68 = dktX4_asks_3 := dk_seg dksX4_asks_2 22 rfl rfl
theorem dksX4_asks_4 : cX4_asks.data.toList.drop 92 = dktX4_asks_4 := dk_seg dksX4_asks_3 24 rfl rfl
theorem dksX4_asks_5 : cX4_asks.data.toList.drop 116 = dktX4_asks_5 := dk_seg dksX4_asks_4 24 rfl rfl
theorem dksX4_asks_6 : cX4_asks.data.toList.drop 140 = dktX4_asks_6 := dk_seg dksX4_asks_5 24 rfl rfl
theorem dX4_asks_0 : decode cX4_asks 0 = .ok (.aload_n 0, 1) := dk_42 (dk_at dksX4_asks_0 0 rfl rfl)
theorem dX4_asks_1 : decode cX4_asks 1 = .ok (.iconst 0, 1) := dk_3 (dk_at dksX4_asks_0 1 rfl rfl)
theorem dX4_asks_2 : decode cX4_asks 2 = .ok (.putfield 3, 3) := dk_181 0 3 (dk_at dksX4_asks_0 2 rfl rfl)
theorem dX4_asks_5 : decode cX4_asks 5 = .ok (.iconst 0, 1) := dk_3 (dk_at dksX4_asks_0 5 rfl rfl)
theorem dX4_asks_6 : decode cX4_asks 6 = .ok (.istore_n 1, 1) := dk_60 (dk_at dksX4_asks_0 6 rfl rfl)
theorem dX4_asks_7 : decode cX4_asks 7 = .ok (.iconst 0, 1) := dk_3 (dk_at dksX4_asks_0 7 rfl rfl)
theorem dX4_asks_8 : decode cX4_asks 8 = .ok (.istore_n 2, 1) := dk_61 (dk_at dksX4_asks_0 8 rfl rfl)
theorem dX4_asks_9 : decode cX4_asks 9 = .ok (.iload_n 2, 1) := dk_28 (dk_at dksX4_asks_0 9 rfl rfl)
theorem dX4_asks_10 : decode cX4_asks 10 = .ok (.aload_n 0, 1) := dk_42 (dk_at dksX4_asks_0 10 rfl rfl)
theorem dX4_asks_11 : decode cX4_asks 11 = .ok (.getfield 198, 3) := dk_180 0 198 (dk_at dksX4_asks_0 11 rfl rfl)
theorem dX4_asks_14 : decode cX4_asks 14 = .ok (.if_icmp .ge 35, 3) := dk_162 0 35 (dk_at dksX4_asks_0 14 rfl rfl)
theorem dX4_asks_17 : decode cX4_asks 17 = .ok (.iconst 0, 1) := dk_3 (dk_at dksX4_asks_0 17 rfl rfl)
theorem dX4_asks_18 : decode cX4_asks 18 = .ok (.istore_n 3, 1) := dk_62 (dk_at dksX4_asks_0 18 rfl rfl)
theorem dX4_asks_19 : decode cX4_asks 19 = .ok (.iload_n 3, 1) := dk_29 (dk_at dksX4_asks_0 19 rfl rfl)
theorem dX4_asks_20 : decode cX4_asks 20 = .ok (.bipush 16, 2) := dk_16 16 (dk_at dksX4_asks_0 20 rfl rfl)
theorem dX4_asks_22 : decode cX4_asks 22 = .ok (.if_icmp .ge 21, 3) := dk_162 0 21 (dk_at dksX4_asks_1 0 rfl rfl)
theorem dX4_asks_25 : decode cX4_asks 25 = .ok (.iload_n 1, 1) := dk_27 (dk_at dksX4_asks_1 3 rfl rfl)
theorem dX4_asks_26 : decode cX4_asks 26 = .ok (.aload_n 0, 1) := dk_42 (dk_at dksX4_asks_1 4 rfl rfl)
theorem dX4_asks_27 : decode cX4_asks 27 = .ok (.iload_n 2, 1) := dk_28 (dk_at dksX4_asks_1 5 rfl rfl)
theorem dX4_asks_28 : decode cX4_asks 28 = .ok (.iload_n 3, 1) := dk_29 (dk_at dksX4_asks_1 6 rfl rfl)
theorem dX4_asks_29 : decode cX4_asks 29 = .ok (.invokevirtual 437, 3) := dk_182 1 181 (dk_at dksX4_asks_1 7 rfl rfl)
theorem dX4_asks_32 : decode cX4_asks 32 = .ok (.invokestatic 40, 3) := dk_184 0 40 (dk_at dksX4_asks_1 10 rfl rfl)
theorem dX4_asks_35 : decode cX4_asks 35 = .ok (.iadd, 1) := dk_96 (dk_at dksX4_asks_1 13 rfl rfl)
theorem dX4_asks_36 : decode cX4_asks 36 = .ok (.istore_n 1, 1) := dk_60 (dk_at dksX4_asks_1 14 rfl rfl)
theorem dX4_asks_37 : decode cX4_asks 37 = .ok (.iinc 3 1, 3) := dk_132 3 1 (dk_at dksX4_asks_1 15 rfl rfl)
theorem dX4_asks_40 : decode cX4_asks 40 = .ok (.goto (-21), 3) := dk_167 255 235 (dk_at dksX4_asks_1 18 rfl rfl)
theorem dX4_asks_43 : decode cX4_asks 43 = .ok (.iinc 2 1, 3) := dk_132 2 1 (dk_at dksX4_asks_1 21 rfl rfl)
theorem dX4_asks_46 : decode cX4_asks 46 = .ok (.goto (-37), 3) := dk_167 255 219 (dk_at dksX4_asks_2 0 rfl rfl)
theorem dX4_asks_49 : decode cX4_asks 49 = .ok (.iload_n 1, 1) := dk_27 (dk_at dksX4_asks_2 3 rfl rfl)
theorem dX4_asks_50 : decode cX4_asks 50 = .ok (.ifCond .ne 6, 3) := dk_154 0 6 (dk_at dksX4_asks_2 4 rfl rfl)
theorem dX4_asks_53 : decode cX4_asks 53 = .ok (.bipush (-2), 2) := dk_16 254 (dk_at dksX4_asks_2 7 rfl rfl)
theorem dX4_asks_55 : decode cX4_asks 55 = .ok (.ireturn, 1) := dk_172 (dk_at dksX4_asks_2 9 rfl rfl)
theorem dX4_asks_56 : decode cX4_asks 56 = .ok (.iconst (-1), 1) := dk_2 (dk_at dksX4_asks_2 10 rfl rfl)
theorem dX4_asks_57 : decode cX4_asks 57 = .ok (.istore_n 2, 1) := dk_61 (dk_at dksX4_asks_2 11 rfl rfl)
theorem dX4_asks_58 : decode cX4_asks 58 = .ok (.ldc_w 441, 3) := dk_19 1 185 (dk_at dksX4_asks_2 12 rfl rfl)
theorem dX4_asks_61 : decode cX4_asks 61 = .ok (.istore_n 3, 1) := dk_62 (dk_at dksX4_asks_2 15 rfl rfl)
theorem dX4_asks_62 : decode cX4_asks 62 = .ok (.iconst 0, 1) := dk_3 (dk_at dksX4_asks_2 16 rfl rfl)
theorem dX4_asks_63 : decode cX4_asks 63 = .ok (.istore 4, 2) := dk_54 4 (dk_at dksX4_asks_2 17 rfl rfl)
theorem dX4_asks_65 : decode cX4_asks 65 = .ok (.iload 4, 2) := dk_21 4 (dk_at dksX4_asks_2 19 rfl rfl)
theorem dX4_asks_67 : decode cX4_asks 67 = .ok (.iconst 4, 1) := dk_7 (dk_at dksX4_asks_2 21 rfl rfl)
theorem dX4_asks_68 : decode cX4_asks 68 = .ok (.if_icmp .ge 75, 3) := dk_162 0 75 (dk_at dksX4_asks_3 0 rfl rfl)
theorem dX4_asks_71 : decode cX4_asks 71 = .ok (.iconst 0, 1) := dk_3 (dk_at dksX4_asks_3 3 rfl rfl)
theorem dX4_asks_72 : decode cX4_asks 72 = .ok (.istore 5, 2) := dk_54 5 (dk_at dksX4_asks_3 4 rfl rfl)
theorem dX4_asks_74 : decode cX4_asks 74 = .ok (.iload 5, 2) := dk_21 5 (dk_at dksX4_asks_3 6 rfl rfl)
theorem dX4_asks_76 : decode cX4_asks 76 = .ok (.iload 4, 2) := dk_21 4 (dk_at dksX4_asks_3 8 rfl rfl)
theorem dX4_asks_78 : decode cX4_asks 78 = .ok (.invokestatic 424, 3) := dk_184 1 168 (dk_at dksX4_asks_3 10 rfl rfl)
theorem dX4_asks_81 : decode cX4_asks 81 = .ok (.if_icmp .gt 56, 3) := dk_163 0 56 (dk_at dksX4_asks_3 13 rfl rfl)
theorem dX4_asks_84 : decode cX4_asks 84 = .ok (.aload_n 0, 1) := dk_42 (dk_at dksX4_asks_3 16 rfl rfl)
theorem dX4_asks_85 : decode cX4_asks 85 = .ok (.iload 4, 2) := dk_21 4 (dk_at dksX4_asks_3 17 rfl rfl)
theorem dX4_asks_87 : decode cX4_asks 87 = .ok (.iload 5, 2) := dk_21 5 (dk_at dksX4_asks_3 19 rfl rfl)
theorem dX4_asks_89 : decode cX4_asks 89 = .ok (.invokevirtual 442, 3) := dk_182 1 186 (dk_at dksX4_asks_3 21 rfl rfl)
theorem dX4_asks_92 : decode cX4_asks 92 = .ok (.istore 6, 2) := dk_54 6 (dk_at dksX4_asks_4 0 rfl rfl)
theorem dX4_asks_94 : decode cX4_asks 94 = .ok (.iload 6, 2) := dk_21 6 (dk_at dksX4_asks_4 2 rfl rfl)
theorem dX4_asks_96 : decode cX4_asks 96 = .ok (.iload_n 1, 1) := dk_27 (dk_at dksX4_asks_4 4 rfl rfl)
theorem dX4_asks_97 : decode cX4_asks 97 = .ok (.iload 6, 2) := dk_21 6 (dk_at dksX4_asks_4 5 rfl rfl)
theorem dX4_asks_99 : decode cX4_asks 99 = .ok (.isub, 1) := dk_100 (dk_at dksX4_asks_4 7 rfl rfl)
theorem dX4_asks_100 : decode cX4_asks 100 = .ok (.invokestatic 226, 3) := dk_184 0 226 (dk_at dksX4_asks_4 8 rfl rfl)
theorem dX4_asks_103 : decode cX4_asks 103 = .ok (.istore 7, 2) := dk_54 7 (dk_at dksX4_asks_4 11 rfl rfl)
theorem dX4_asks_105 : decode cX4_asks 105 = .ok (.iload 7, 2) := dk_21 7 (dk_at dksX4_asks_4 13 rfl rfl)
theorem dX4_asks_107 : decode cX4_asks 107 = .ok (.iload_n 3, 1) := dk_29 (dk_at dksX4_asks_4 15 rfl rfl)
theorem dX4_asks_108 : decode cX4_asks 108 = .ok (.if_icmp .ge 14, 3) := dk_162 0 14 (dk_at dksX4_asks_4 16 rfl rfl)
theorem dX4_asks_111 : decode cX4_asks 111 = .ok (.bipush 10, 2) := dk_16 10 (dk_at dksX4_asks_4 19 rfl rfl)
theorem dX4_asks_113 : decode cX4_asks 113 = .ok (.iload 4, 2) := dk_21 4 (dk_at dksX4_asks_4 21 rfl rfl)
theorem dX4_asks_115 : decode cX4_asks 115 = .ok (.imul, 1) := dk_104 (dk_at dksX4_asks_4 23 rfl rfl)
theorem dX4_asks_116 : decode cX4_asks 116 = .ok (.iload 5, 2) := dk_21 5 (dk_at dksX4_asks_5 0 rfl rfl)
theorem dX4_asks_118 : decode cX4_asks 118 = .ok (.iadd, 1) := dk_96 (dk_at dksX4_asks_5 2 rfl rfl)
theorem dX4_asks_119 : decode cX4_asks 119 = .ok (.goto 4, 3) := dk_167 0 4 (dk_at dksX4_asks_5 3 rfl rfl)
theorem dX4_asks_122 : decode cX4_asks 122 = .ok (.iload_n 2, 1) := dk_28 (dk_at dksX4_asks_5 6 rfl rfl)
theorem dX4_asks_123 : decode cX4_asks 123 = .ok (.istore_n 2, 1) := dk_61 (dk_at dksX4_asks_5 7 rfl rfl)
theorem dX4_asks_124 : decode cX4_asks 124 = .ok (.iload_n 3, 1) := dk_29 (dk_at dksX4_asks_5 8 rfl rfl)
theorem dX4_asks_125 : decode cX4_asks 125 = .ok (.iload 7, 2) := dk_21 7 (dk_at dksX4_asks_5 9 rfl rfl)
theorem dX4_asks_127 : decode cX4_asks 127 = .ok (.invokestatic 31, 3) := dk_184 0 31 (dk_at dksX4_asks_5 11 rfl rfl)
theorem dX4_asks_130 : decode cX4_asks 130 = .ok (.istore_n 3, 1) := dk_62 (dk_at dksX4_asks_5 14 rfl rfl)
theorem dX4_asks_131 : decode cX4_asks 131 = .ok (.iinc 5 1, 3) := dk_132 5 1 (dk_at dksX4_asks_5 15 rfl rfl)
theorem dX4_asks_134 : decode cX4_asks 134 = .ok (.goto (-60), 3) := dk_167 255 196 (dk_at dksX4_asks_5 18 rfl rfl)
theorem dX4_asks_137 : decode cX4_asks 137 = .ok (.iinc 4 1, 3) := dk_132 4 1 (dk_at dksX4_asks_5 21 rfl rfl)
theorem dX4_asks_140 : decode cX4_asks 140 = .ok (.goto (-75), 3) := dk_167 255 181 (dk_at dksX4_asks_6 0 rfl rfl)
theorem dX4_asks_143 : decode cX4_asks 143 = .ok (.aload_n 0, 1) := dk_42 (dk_at dksX4_asks_6 3 rfl rfl)
theorem dX4_asks_144 : decode cX4_asks 144 = .ok (.iconst 0, 1) := dk_3 (dk_at dksX4_asks_6 4 rfl rfl)
theorem dX4_asks_145 : decode cX4_asks 145 = .ok (.putfield 11, 3) := dk_181 0 11 (dk_at dksX4_asks_6 5 rfl rfl)
theorem dX4_asks_148 : decode cX4_asks 148 = .ok (.aload_n 0, 1) := dk_42 (dk_at dksX4_asks_6 8 rfl rfl)
theorem dX4_asks_149 : decode cX4_asks 149 = .ok (.iload_n 3, 1) := dk_29 (dk_at dksX4_asks_6 9 rfl rfl)
theorem dX4_asks_150 : decode cX4_asks 150 = .ok (.i2l, 1) := dk_133 (dk_at dksX4_asks_6 10 rfl rfl)
theorem dX4_asks_151 : decode cX4_asks 151 = .ok (.invokevirtual 345, 3) := dk_182 1 89 (dk_at dksX4_asks_6 11 rfl rfl)
theorem dX4_asks_154 : decode cX4_asks 154 = .ok (.iload_n 2, 1) := dk_28 (dk_at dksX4_asks_6 14 rfl rfl)
theorem dX4_asks_155 : decode cX4_asks 155 = .ok (.ireturn, 1) := dk_172 (dk_at dksX4_asks_6 15 rfl rfl)
abbrev cX4_soMany : ByteArray := prog_13_method_111_code
def yX4_soMany : MethodName := ⟨RX4, "soMany", "(II)I"⟩
def dkwX4_soMany_3 : List UInt8 := [167, 255, 193, 29, 172]
abbrev dktX4_soMany_3 : List UInt8 := dkwX4_soMany_3 ++ []
def dkwX4_soMany_2 : List UInt8 := [153, 0, 7, 4, 167, 0, 4, 3, 184, 0, 40, 96, 62, 132, 5, 1, 167, 255, 211, 132, 4, 1]
abbrev dktX4_soMany_2 : List UInt8 := dkwX4_soMany_2 ++ dktX4_soMany_3
def dkwX4_soMany_1 : List UInt8 := [29, 42, 21, 4, 21, 5, 182, 1, 181, 153, 0, 20, 42, 21, 4, 21, 5, 27, 28, 182, 1, 177]
abbrev dktX4_soMany_1 : List UInt8 := dkwX4_soMany_1 ++ dktX4_soMany_2
def dkwX4_soMany_0 : List UInt8 := [3, 62, 3, 54, 4, 21, 4, 42, 180, 0, 198, 162, 0, 60, 3, 54, 5, 21, 5, 16, 16, 162, 0, 44]
abbrev dktX4_soMany_0 : List UInt8 := dkwX4_soMany_0 ++ dktX4_soMany_1
theorem dksX4_soMany_0 : cX4_soMany.data.toList.drop 0 = dktX4_soMany_0 := by decide +kernel
theorem dksX4_soMany_1 : cX4_soMany.data.toList.drop 24 = dktX4_soMany_1 := dk_seg dksX4_soMany_0 24 rfl rfl
theorem dksX4_soMany_2 : cX4_soMany.data.toList.drop 46 = dktX4_soMany_2 := dk_seg dksX4_soMany_1 22 rfl rfl
theorem dksX4_soMany_3 : cX4_soMany.data.toList.drop 68 = dktX4_soMany_3 := dk_seg dksX4_soMany_2 22 rfl rfl
theorem dX4_soMany_0 : decode cX4_soMany 0 = .ok (.iconst 0, 1) := dk_3 (dk_at dksX4_soMany_0 0 rfl rfl)
theorem dX4_soMany_1 : decode cX4_soMany 1 = .ok (.istore_n 3, 1) := dk_62 (dk_at dksX4_soMany_0 1 rfl rfl)
theorem dX4_soMany_2 : decode cX4_soMany 2 = .ok (.iconst 0, 1) := dk_3 (dk_at dksX4_soMany_0 2 rfl rfl)
theorem dX4_soMany_3 : decode cX4_soMany 3 = .ok (.istore 4, 2) := dk_54 4 (dk_at dksX4_soMany_0 3 rfl rfl)
theorem dX4_soMany_5 : decode cX4_soMany 5 = .ok (.iload 4, 2) := dk_21 4 (dk_at dksX4_soMany_0 5 rfl rfl)
theorem dX4_soMany_7 : decode cX4_soMany 7 = .ok (.aload_n 0, 1) := dk_42 (dk_at dksX4_soMany_0 7 rfl rfl)
theorem dX4_soMany_8 : decode cX4_soMany 8 = .ok (.getfield 198, 3) := dk_180 0 198 (dk_at dksX4_soMany_0 8 rfl rfl)
theorem dX4_soMany_11 : decode cX4_soMany 11 = .ok (.if_icmp .ge 60, 3) := dk_162 0 60 (dk_at dksX4_soMany_0 11 rfl rfl)
theorem dX4_soMany_14 : decode cX4_soMany 14 = .ok (.iconst 0, 1) := dk_3 (dk_at dksX4_soMany_0 14 rfl rfl)
theorem dX4_soMany_15 : decode cX4_soMany 15 = .ok (.istore 5, 2) := dk_54 5 (dk_at dksX4_soMany_0 15 rfl rfl)
theorem dX4_soMany_17 : decode cX4_soMany 17 = .ok (.iload 5, 2) := dk_21 5 (dk_at dksX4_soMany_0 17 rfl rfl)
theorem dX4_soMany_19 : decode cX4_soMany 19 = .ok (.bipush 16, 2) := dk_16 16 (dk_at dksX4_soMany_0 19 rfl rfl)
theorem dX4_soMany_21 : decode cX4_soMany 21 = .ok (.if_icmp .ge 44, 3) := dk_162 0 44 (dk_at dksX4_soMany_0 21 rfl rfl)
theorem dX4_soMany_24 : decode cX4_soMany 24 = .ok (.iload_n 3, 1) := dk_29 (dk_at dksX4_soMany_1 0 rfl rfl)
theorem dX4_soMany_25 : decode cX4_soMany 25 = .ok (.aload_n 0, 1) := dk_42 (dk_at dksX4_soMany_1 1 rfl rfl)
theorem dX4_soMany_26 : decode cX4_soMany 26 = .ok (.iload 4, 2) := dk_21 4 (dk_at dksX4_soMany_1 2 rfl rfl)
theorem dX4_soMany_28 : decode cX4_soMany 28 = .ok (.iload 5, 2) := dk_21 5 (dk_at dksX4_soMany_1 4 rfl rfl)
theorem dX4_soMany_30 : decode cX4_soMany 30 = .ok (.invokevirtual 437, 3) := dk_182 1 181 (dk_at dksX4_soMany_1 6 rfl rfl)
theorem dX4_soMany_33 : decode cX4_soMany 33 = .ok (.ifCond .eq 20, 3) := dk_153 0 20 (dk_at dksX4_soMany_1 9 rfl rfl)
theorem dX4_soMany_36 : decode cX4_soMany 36 = .ok (.aload_n 0, 1) := dk_42 (dk_at dksX4_soMany_1 12 rfl rfl)
theorem dX4_soMany_37 : decode cX4_soMany 37 = .ok (.iload 4, 2) := dk_21 4 (dk_at dksX4_soMany_1 13 rfl rfl)
theorem dX4_soMany_39 : decode cX4_soMany 39 = .ok (.iload 5, 2) := dk_21 5 (dk_at dksX4_soMany_1 15 rfl rfl)
theorem dX4_soMany_41 : decode cX4_soMany 41 = .ok (.iload_n 1, 1) := dk_27 (dk_at dksX4_soMany_1 17 rfl rfl)
theorem dX4_soMany_42 : decode cX4_soMany 42 = .ok (.iload_n 2, 1) := dk_28 (dk_at dksX4_soMany_1 18 rfl rfl)
theorem dX4_soMany_43 : decode cX4_soMany 43 = .ok (.invokevirtual 433, 3) := dk_182 1 177 (dk_at dksX4_soMany_1 19 rfl rfl)
theorem dX4_soMany_46 : decode cX4_soMany 46 = .ok (.ifCond .eq 7, 3) := dk_153 0 7 (dk_at dksX4_soMany_2 0 rfl rfl)
theorem dX4_soMany_49 : decode cX4_soMany 49 = .ok (.iconst 1, 1) := dk_4 (dk_at dksX4_soMany_2 3 rfl rfl)
theorem dX4_soMany_50 : decode cX4_soMany 50 = .ok (.goto 4, 3) := dk_167 0 4 (dk_at dksX4_soMany_2 4 rfl rfl)
theorem dX4_soMany_53 : decode cX4_soMany 53 = .ok (.iconst 0, 1) := dk_3 (dk_at dksX4_soMany_2 7 rfl rfl)
theorem dX4_soMany_54 : decode cX4_soMany 54 = .ok (.invokestatic 40, 3) := dk_184 0 40 (dk_at dksX4_soMany_2 8 rfl rfl)
theorem dX4_soMany_57 : decode cX4_soMany 57 = .ok (.iadd, 1) := dk_96 (dk_at dksX4_soMany_2 11 rfl rfl)
theorem dX4_soMany_58 : decode cX4_soMany 58 = .ok (.istore_n 3, 1) := dk_62 (dk_at dksX4_soMany_2 12 rfl rfl)
theorem dX4_soMany_59 : decode cX4_soMany 59 = .ok (.iinc 5 1, 3) := dk_132 5 1 (dk_at dksX4_soMany_2 13 rfl rfl)
theorem dX4_soMany_62 : decode cX4_soMany 62 = .ok (.goto (-45), 3) := dk_167 255 211 (dk_at dksX4_soMany_2 16 rfl rfl)
theorem dX4_soMany_65 : decode cX4_soMany 65 = .ok (.iinc 4 1, 3) := dk_132 4 1 (dk_at dksX4_soMany_2 19 rfl rfl)
theorem dX4_soMany_68 : decode cX4_soMany 68 = .ok (.goto (-63), 3) := dk_167 255 193 (dk_at dksX4_soMany_3 0 rfl rfl)
theorem dX4_soMany_71 : decode cX4_soMany 71 = .ok (.iload_n 3, 1) := dk_29 (dk_at dksX4_soMany_3 3 rfl rfl)
theorem dX4_soMany_72 : decode cX4_soMany 72 = .ok (.ireturn, 1) := dk_172 (dk_at dksX4_soMany_3 4 rfl rfl)
abbrev cX4_laps : ByteArray := prog_13_method_113_code
def yX4_laps : MethodName := ⟨RX4, "laps", "(III)I"⟩
def dkwX4_laps_5 : List UInt8 := [132, 4, 255, 167, 255, 185, 42, 180, 0, 182, 28, 46, 172]
abbrev dktX4_laps_5 : List UInt8 := dkwX4_laps_5 ++ []
def dkwX4_laps_4 : List UInt8 := [96, 46, 154, 0, 8, 21, 5, 167, 0, 10, 42, 180, 0, 182, 21, 4, 46, 79, 132, 5, 255, 167, 255, 216]
abbrev dktX4_laps_4 : List UInt8 := dkwX4_laps_4 ++ dktX4_laps_5
def dkwX4_laps_3 : List UInt8 := [184, 0, 31, 54, 5, 21, 5, 158, 0, 41, 42, 180, 0, 182, 21, 4, 42, 180, 0, 182, 21, 4, 21, 5]
abbrev dktX4_laps_3 : List UInt8 := dkwX4_laps_3 ++ dktX4_laps_4
def dkwX4_laps_2 : List UInt8 := [100, 54, 4, 21, 4, 155, 0, 72, 42, 180, 0, 182, 21, 4, 3, 79, 29, 27, 4, 100, 21, 4, 100]
abbrev dktX4_laps_2 : List UInt8 := dkwX4_laps_2 ++ dktX4_laps_3
def dkwX4_laps_1 : List UInt8 := [100, 133, 184, 0, 21, 153, 0, 15, 29, 133, 10, 20, 1, 14, 184, 0, 21, 154, 0, 5, 2, 172, 27, 4]
abbrev dktX4_laps_1 : List UInt8 := dkwX4_laps_1 ++ dktX4_laps_2
def dkwX4_laps_0 : List UInt8 := [42, 3, 181, 0, 3, 27, 133, 20, 1, 189, 20, 1, 191, 184, 0, 21, 153, 0, 28, 28, 133, 9, 27, 4]
abbrev dktX4_laps_0 : List UInt8 := dkwX4_laps_0 ++ dktX4_laps_1
theorem dksX4_laps_0 : cX4_laps.data.toList.drop 0 = dktX4_laps_0 := by decide +kernel
theorem dksX4_laps_1 : cX4_laps.data.toList.drop 24 = dktX4_laps_1 := dk_seg dksX4_laps_0 24 rfl rfl
theorem dksX4_laps_2 : cX4_laps.data.toList.drop 48 = dktX4_laps_2 := dk_seg dksX4_laps_1 24 rfl rfl
theorem dksX4_laps_3 : cX4_laps.data.toList.drop 71 = dktX4_laps_3 := dk_seg dksX4_laps_2 23 rfl rfl
theorem dksX4_laps_4 : cX4_laps.data.toList.drop 95 = dktX4_laps_4 := dk_seg dksX4_laps_3 24 rfl rfl
theorem dksX4_laps_5 : cX4_laps.data.toList.drop 119 = dktX4_laps_5 := dk_seg dksX4_laps_4 24 rfl rfl
theorem dX4_laps_0 : decode cX4_laps 0 = .ok (.aload_n 0, 1) := dk_42 (dk_at dksX4_laps_0 0 rfl rfl)
theorem dX4_laps_1 : decode cX4_laps 1 = .ok (.iconst 0, 1) := dk_3 (dk_at dksX4_laps_0 1 rfl rfl)
theorem dX4_laps_2 : decode cX4_laps 2 = .ok (.putfield 3, 3) := dk_181 0 3 (dk_at dksX4_laps_0 2 rfl rfl)
theorem dX4_laps_5 : decode cX4_laps 5 = .ok (.iload_n 1, 1) := dk_27 (dk_at dksX4_laps_0 5 rfl rfl)
theorem dX4_laps_6 : decode cX4_laps 6 = .ok (.i2l, 1) := dk_133 (dk_at dksX4_laps_0 6 rfl rfl)
theorem dX4_laps_7 : decode cX4_laps 7 = .ok (.ldc2_w 445, 3) := dk_20 1 189 (dk_at dksX4_laps_0 7 rfl rfl)
theorem dX4_laps_10 : decode cX4_laps 10 = .ok (.ldc2_w 447, 3) := dk_20 1 191 (dk_at dksX4_laps_0 10 rfl rfl)
theorem dX4_laps_13 : decode cX4_laps 13 = .ok (.invokestatic 21, 3) := dk_184 0 21 (dk_at dksX4_laps_0 13 rfl rfl)
theorem dX4_laps_16 : decode cX4_laps 16 = .ok (.ifCond .eq 28, 3) := dk_153 0 28 (dk_at dksX4_laps_0 16 rfl rfl)
theorem dX4_laps_19 : decode cX4_laps 19 = .ok (.iload_n 2, 1) := dk_28 (dk_at dksX4_laps_0 19 rfl rfl)
theorem dX4_laps_20 : decode cX4_laps 20 = .ok (.i2l, 1) := dk_133 (dk_at dksX4_laps_0 20 rfl rfl)
theorem dX4_laps_21 : decode cX4_laps 21 = .ok (.lconst 0, 1) := dk_9 (dk_at dksX4_laps_0 21 rfl rfl)
theorem dX4_laps_22 : decode cX4_laps 22 = .ok (.iload_n 1, 1) := dk_27 (dk_at dksX4_laps_0 22 rfl rfl)
theorem dX4_laps_23 : decode cX4_laps 23 = .ok (.iconst 1, 1) := dk_4 (dk_at dksX4_laps_0 23 rfl rfl)
theorem dX4_laps_24 : decode cX4_laps 24 = .ok (.isub, 1) := dk_100 (dk_at dksX4_laps_1 0 rfl rfl)
theorem dX4_laps_25 : decode cX4_laps 25 = .ok (.i2l, 1) := dk_133 (dk_at dksX4_laps_1 1 rfl rfl)
theorem dX4_laps_26 : decode cX4_laps 26 = .ok (.invokestatic 21, 3) := dk_184 0 21 (dk_at dksX4_laps_1 2 rfl rfl)
theorem dX4_laps_29 : decode cX4_laps 29 = .ok (.ifCond .eq 15, 3) := dk_153 0 15 (dk_at dksX4_laps_1 5 rfl rfl)
theorem dX4_laps_32 : decode cX4_laps 32 = .ok (.iload_n 3, 1) := dk_29 (dk_at dksX4_laps_1 8 rfl rfl)
theorem dX4_laps_33 : decode cX4_laps 33 = .ok (.i2l, 1) := dk_133 (dk_at dksX4_laps_1 9 rfl rfl)
theorem dX4_laps_34 : decode cX4_laps 34 = .ok (.lconst 1, 1) := dk_10 (dk_at dksX4_laps_1 10 rfl rfl)
theorem dX4_laps_35 : decode cX4_laps 35 = .ok (.ldc2_w 270, 3) := dk_20 1 14 (dk_at dksX4_laps_1 11 rfl rfl)
theorem dX4_laps_38 : decode cX4_laps 38 = .ok (.invokestatic 21, 3) := dk_184 0 21 (dk_at dksX4_laps_1 14 rfl rfl)
theorem dX4_laps_41 : decode cX4_laps 41 = .ok (.ifCond .ne 5, 3) := dk_154 0 5 (dk_at dksX4_laps_1 17 rfl rfl)
theorem dX4_laps_44 : decode cX4_laps 44 = .ok (.iconst (-1), 1) := dk_2 (dk_at dksX4_laps_1 20 rfl rfl)
theorem dX4_laps_45 : decode cX4_laps 45 = .ok (.ireturn, 1) := dk_172 (dk_at dksX4_laps_1 21 rfl rfl)
theorem dX4_laps_46 : decode cX4_laps 46 = .ok (.iload_n 1, 1) := dk_27 (dk_at dksX4_laps_1 22 rfl rfl)
theorem dX4_laps_47 : decode cX4_laps 47 = .ok (.iconst 1, 1) := dk_4 (dk_at dksX4_laps_1 23 rfl rfl)
theorem dX4_laps_48 : decode cX4_laps 48 = .ok (.isub, 1) := dk_100 (dk_at dksX4_laps_2 0 rfl rfl)
theorem dX4_laps_49 : decode cX4_laps 49 = .ok (.istore 4, 2) := dk_54 4 (dk_at dksX4_laps_2 1 rfl rfl)
theorem dX4_laps_51 : decode cX4_laps 51 = .ok (.iload 4, 2) := dk_21 4 (dk_at dksX4_laps_2 3 rfl rfl)
theorem dX4_laps_53 : decode cX4_laps 53 = .ok (.ifCond .lt 72, 3) := dk_155 0 72 (dk_at dksX4_laps_2 5 rfl rfl)
theorem dX4_laps_56 : decode cX4_laps 56 = .ok (.aload_n 0, 1) := dk_42 (dk_at dksX4_laps_2 8 rfl rfl)
theorem dX4_laps_57 : decode cX4_laps 57 = .ok (.getfield 182, 3) := dk_180 0 182 (dk_at dksX4_laps_2 9 rfl rfl)
theorem dX4_laps_60 : decode cX4_laps 60 = .ok (.iload 4, 2) := dk_21 4 (dk_at dksX4_laps_2 12 rfl rfl)
theorem dX4_laps_62 : decode cX4_laps 62 = .ok (.iconst 0, 1) := dk_3 (dk_at dksX4_laps_2 14 rfl rfl)
theorem dX4_laps_63 : decode cX4_laps 63 = .ok (.iastore, 1) := dk_79 (dk_at dksX4_laps_2 15 rfl rfl)
theorem dX4_laps_64 : decode cX4_laps 64 = .ok (.iload_n 3, 1) := dk_29 (dk_at dksX4_laps_2 16 rfl rfl)
theorem dX4_laps_65 : decode cX4_laps 65 = .ok (.iload_n 1, 1) := dk_27 (dk_at dksX4_laps_2 17 rfl rfl)
theorem dX4_laps_66 : decode cX4_laps 66 = .ok (.iconst 1, 1) := dk_4 (dk_at dksX4_laps_2 18 rfl rfl)
theorem dX4_laps_67 : decode cX4_laps 67 = .ok (.isub, 1) := dk_100 (dk_at dksX4_laps_2 19 rfl rfl)
theorem dX4_laps_68 : decode cX4_laps 68 = .ok (.iload 4, 2) := dk_21 4 (dk_at dksX4_laps_2 20 rfl rfl)
theorem dX4_laps_70 : decode cX4_laps 70 = .ok (.isub, 1) := dk_100 (dk_at dksX4_laps_2 22 rfl rfl)
theorem dX4_laps_71 : decode cX4_laps 71 = .ok (.invokestatic 31, 3) := dk_184 0 31 (dk_at dksX4_laps_3 0 rfl rfl)
theorem dX4_laps_74 : decode cX4_laps 74 = .ok (.istore 5, 2) := dk_54 5 (dk_at dksX4_laps_3 3 rfl rfl)
theorem dX4_laps_76 : decode cX4_laps 76 = .ok (.iload 5, 2) := dk_21 5 (dk_at dksX4_laps_3 5 rfl rfl)
theorem dX4_laps_78 : decode cX4_laps 78 = .ok (.ifCond .le 41, 3) := dk_158 0 41 (dk_at dksX4_laps_3 7 rfl rfl)
theorem dX4_laps_81 : decode cX4_laps 81 = .ok (.aload_n 0, 1) := dk_42 (dk_at dksX4_laps_3 10 rfl rfl)
theorem dX4_laps_82 : decode cX4_laps 82 = .ok (.getfield 182, 3) := dk_180 0 182 (dk_at dksX4_laps_3 11 rfl rfl)
theorem dX4_laps_85 : decode cX4_laps 85 = .ok (.iload 4, 2) := dk_21 4 (dk_at dksX4_laps_3 14 rfl rfl)
theorem dX4_laps_87 : decode cX4_laps 87 = .ok (.aload_n 0, 1) := dk_42 (dk_at dksX4_laps_3 16 rfl rfl)
theorem dX4_laps_88 : decode cX4_laps 88 = .ok (.getfield 182, 3) := dk_180 0 182 (dk_at dksX4_laps_3 17 rfl rfl)
theorem dX4_laps_91 : decode cX4_laps 91 = .ok (.iload 4, 2) := dk_21 4 (dk_at dksX4_laps_3 20 rfl rfl)
theorem dX4_laps_93 : decode cX4_laps 93 = .ok (.iload 5, 2) := dk_21 5 (dk_at dksX4_laps_3 22 rfl rfl)
theorem dX4_laps_95 : decode cX4_laps 95 = .ok (.iadd, 1) := dk_96 (dk_at dksX4_laps_4 0 rfl rfl)
theorem dX4_laps_96 : decode cX4_laps 96 = .ok (.iaload, 1) := dk_46 (dk_at dksX4_laps_4 1 rfl rfl)
theorem dX4_laps_97 : decode cX4_laps 97 = .ok (.ifCond .ne 8, 3) := dk_154 0 8 (dk_at dksX4_laps_4 2 rfl rfl)
theorem dX4_laps_100 : decode cX4_laps 100 = .ok (.iload 5, 2) := dk_21 5 (dk_at dksX4_laps_4 5 rfl rfl)
theorem dX4_laps_102 : decode cX4_laps 102 = .ok (.goto 10, 3) := dk_167 0 10 (dk_at dksX4_laps_4 7 rfl rfl)
theorem dX4_laps_105 : decode cX4_laps 105 = .ok (.aload_n 0, 1) := dk_42 (dk_at dksX4_laps_4 10 rfl rfl)
theorem dX4_laps_106 : decode cX4_laps 106 = .ok (.getfield 182, 3) := dk_180 0 182 (dk_at dksX4_laps_4 11 rfl rfl)
theorem dX4_laps_109 : decode cX4_laps 109 = .ok (.iload 4, 2) := dk_21 4 (dk_at dksX4_laps_4 14 rfl rfl)
theorem dX4_laps_111 : decode cX4_laps 111 = .ok (.iaload, 1) := dk_46 (dk_at dksX4_laps_4 16 rfl rfl)
theorem dX4_laps_112 : decode cX4_laps 112 = .ok (.iastore, 1) := dk_79 (dk_at dksX4_laps_4 17 rfl rfl)
theorem dX4_laps_113 : decode cX4_laps 113 = .ok (.iinc 5 (-1), 3) := dk_132 5 255 (dk_at dksX4_laps_4 18 rfl rfl)
theorem dX4_laps_116 : decode cX4_laps 116 = .ok (.goto (-40), 3) := dk_167 255 216 (dk_at dksX4_laps_4 21 rfl rfl)
theorem dX4_laps_119 : decode cX4_laps 119 = .ok (.iinc 4 (-1), 3) := dk_132 4 255 (dk_at dksX4_laps_5 0 rfl rfl)
theorem dX4_laps_122 : decode cX4_laps 122 = .ok (.goto (-71), 3) := dk_167 255 185 (dk_at dksX4_laps_5 3 rfl rfl)
theorem dX4_laps_125 : decode cX4_laps 125 = .ok (.aload_n 0, 1) := dk_42 (dk_at dksX4_laps_5 6 rfl rfl)
theorem dX4_laps_126 : decode cX4_laps 126 = .ok (.getfield 182, 3) := dk_180 0 182 (dk_at dksX4_laps_5 7 rfl rfl)
theorem dX4_laps_129 : decode cX4_laps 129 = .ok (.iload_n 2, 1) := dk_28 (dk_at dksX4_laps_5 10 rfl rfl)
theorem dX4_laps_130 : decode cX4_laps 130 = .ok (.iaload, 1) := dk_46 (dk_at dksX4_laps_5 11 rfl rfl)
theorem dX4_laps_131 : decode cX4_laps 131 = .ok (.ireturn, 1) := dk_172 (dk_at dksX4_laps_5 12 rfl rfl)
abbrev cX4_law : ByteArray := prog_13_method_115_code
def yX4_law : MethodName := ⟨RX4, "law", "()I"⟩
def dkwX4_law_4 : List UInt8 := [181, 0, 11, 42, 21, 4, 133, 182, 1, 89, 42, 28, 133, 182, 1, 89, 21, 4, 28, 100, 172]
abbrev dktX4_law_4 : List UInt8 := dkwX4_law_4 ++ []
def dkwX4_law_3 : List UInt8 := [42, 180, 0, 69, 182, 0, 114, 42, 182, 1, 193, 54, 4, 42, 42, 180, 0, 185, 29, 182, 0, 114, 42, 3]
abbrev dktX4_law_3 : List UInt8 := dkwX4_law_3 ++ dktX4_law_4
def dkwX4_law_2 : List UInt8 := [180, 0, 185, 21, 4, 42, 180, 0, 108, 21, 4, 46, 79, 132, 4, 1, 167, 255, 230, 42, 42, 180, 0, 66]
abbrev dktX4_law_2 : List UInt8 := dkwX4_law_2 ++ dktX4_law_3
def dkwX4_law_1 : List UInt8 := [182, 1, 193, 61, 42, 180, 0, 105, 62, 3, 54, 4, 21, 4, 42, 180, 0, 105, 162, 0, 23, 42]
abbrev dktX4_law_1 : List UInt8 := dkwX4_law_1 ++ dktX4_law_2
def dkwX4_law_0 : List UInt8 := [42, 3, 181, 0, 3, 42, 182, 0, 111, 60, 27, 156, 0, 11, 27, 4, 96, 17, 3, 232, 100, 172, 42]
abbrev dktX4_law_0 : List UInt8 := dkwX4_law_0 ++ dktX4_law_1
theorem dksX4_law_0 : cX4_law.data.toList.drop 0 = dktX4_law_0 := by decide +kernel
theorem dksX4_law_1 : cX4_law.data.toList.drop 23 = dktX4_law_1 := dk_seg dksX4_law_0 23 rfl rfl
theorem dksX4_law_2 : cX4_law.data.toList.drop 45 = dktX4_law_2 := dk_seg dksX4_law_1 22 rfl rfl
theorem dksX4_law_3 : cX4_law.data.toList.drop 69 = dktX4_law_3 := dk_seg dksX4_law_2 24 rfl rfl
theorem dksX4_law_4 : cX4_law.data.toList.drop 93 = dktX4_law_4 := dk_seg dksX4_law_3 24 rfl rfl
theorem dX4_law_0 : decode cX4_law 0 = .ok (.aload_n 0, 1) := dk_42 (dk_at dksX4_law_0 0 rfl rfl)
theorem dX4_law_1 : decode cX4_law 1 = .ok (.iconst 0, 1) := dk_3 (dk_at dksX4_law_0 1 rfl rfl)
theorem dX4_law_2 : decode cX4_law 2 = .ok (.putfield 3, 3) := dk_181 0 3 (dk_at dksX4_law_0 2 rfl rfl)
theorem dX4_law_5 : decode cX4_law 5 = .ok (.aload_n 0, 1) := dk_42 (dk_at dksX4_law_0 5 rfl rfl)
theorem dX4_law_6 : decode cX4_law 6 = .ok (.invokevirtual 111, 3) := dk_182 0 111 (dk_at dksX4_law_0 6 rfl rfl)
theorem dX4_law_9 : decode cX4_law 9 = .ok (.istore_n 1, 1) := dk_60 (dk_at dksX4_law_0 9 rfl rfl)
theorem dX4_law_10 : decode cX4_law 10 = .ok (.iload_n 1, 1) := dk_27 (dk_at dksX4_law_0 10 rfl rfl)
theorem dX4_law_11 : decode cX4_law 11 = .ok (.ifCond .ge 11, 3) := dk_156 0 11 (dk_at dksX4_law_0 11 rfl rfl)
theorem dX4_law_14 : decode cX4_law 14 = .ok (.iload_n 1, 1) := dk_27 (dk_at dksX4_law_0 14 rfl rfl)
theorem dX4_law_15 : decode cX4_law 15 = .ok (.iconst 1, 1) := dk_4 (dk_at dksX4_law_0 15 rfl rfl)
theorem dX4_law_16 : decode cX4_law 16 = .ok (.iadd, 1) := dk_96 (dk_at dksX4_law_0 16 rfl rfl)
theorem dX4_law_17 : decode cX4_law 17 = .ok (.sipush 1000, 3) := dk_17 3 232 (dk_at dksX4_law_0 17 rfl rfl)
theorem dX4_law_20 : decode cX4_law 20 = .ok (.isub, 1) := dk_100 (dk_at dksX4_law_0 20 rfl rfl)
theorem dX4_law_21 : decode cX4_law 21 = .ok (.ireturn, 1) := dk_172 (dk_at dksX4_law_0 21 rfl rfl)
theorem dX4_law_22 : decode cX4_law 22 = .ok (.aload_n 0, 1) := dk_42 (dk_at dksX4_law_0 22 rfl rfl)
theorem dX4_law_23 : decode cX4_law 23 = .ok (.invokevirtual 449, 3) := dk_182 1 193 (dk_at dksX4_law_1 0 rfl rfl)
theorem dX4_law_26 : decode cX4_law 26 = .ok (.istore_n 2, 1) := dk_61 (dk_at dksX4_law_1 3 rfl rfl)
theorem dX4_law_27 : decode cX4_law 27 = .ok (.aload_n 0, 1) := dk_42 (dk_at dksX4_law_1 4 rfl rfl)
theorem dX4_law_28 : decode cX4_law 28 = .ok (.getfield 105, 3) := dk_180 0 105 (dk_at dksX4_law_1 5 rfl rfl)
theorem dX4_law_31 : decode cX4_law 31 = .ok (.istore_n 3, 1) := dk_62 (dk_at dksX4_law_1 8 rfl rfl)
theorem dX4_law_32 : decode cX4_law 32 = .ok (.iconst 0, 1) := dk_3 (dk_at dksX4_law_1 9 rfl rfl)
theorem dX4_law_33 : decode cX4_law 33 = .ok (.istore 4, 2) := dk_54 4 (dk_at dksX4_law_1 10 rfl rfl)
theorem dX4_law_35 : decode cX4_law 35 = .ok (.iload 4, 2) := dk_21 4 (dk_at dksX4_law_1 12 rfl rfl)
theorem dX4_law_37 : decode cX4_law 37 = .ok (.aload_n 0, 1) := dk_42 (dk_at dksX4_law_1 14 rfl rfl)
theorem dX4_law_38 : decode cX4_law 38 = .ok (.getfield 105, 3) := dk_180 0 105 (dk_at dksX4_law_1 15 rfl rfl)
theorem dX4_law_41 : decode cX4_law 41 = .ok (.if_icmp .ge 23, 3) := dk_162 0 23 (dk_at dksX4_law_1 18 rfl rfl)
theorem dX4_law_44 : decode cX4_law 44 = .ok (.aload_n 0, 1) := dk_42 (dk_at dksX4_law_1 21 rfl rfl)
theorem dX4_law_45 : decode cX4_law 45 = .ok (.getfield 185, 3) := dk_180 0 185 (dk_at dksX4_law_2 0 rfl rfl)
theorem dX4_law_48 : decode cX4_law 48 = .ok (.iload 4, 2) := dk_21 4 (dk_at dksX4_law_2 3 rfl rfl)
theorem dX4_law_50 : decode cX4_law 50 = .ok (.aload_n 0, 1) := dk_42 (dk_at dksX4_law_2 5 rfl rfl)
theorem dX4_law_51 : decode cX4_law 51 = .ok (.getfield 108, 3) := dk_180 0 108 (dk_at dksX4_law_2 6 rfl rfl)
theorem dX4_law_54 : decode cX4_law 54 = .ok (.iload 4, 2) := dk_21 4 (dk_at dksX4_law_2 9 rfl rfl)
theorem dX4_law_56 : decode cX4_law 56 = .ok (.iaload, 1) := dk_46 (dk_at dksX4_law_2 11 rfl rfl)
theorem dX4_law_57 : decode cX4_law 57 = .ok (.iastore, 1) := dk_79 (dk_at dksX4_law_2 12 rfl rfl)
theorem dX4_law_58 : decode cX4_law 58 = .ok (.iinc 4 1, 3) := dk_132 4 1 (dk_at dksX4_law_2 13 rfl rfl)
theorem dX4_law_61 : decode cX4_law 61 = .ok (.goto (-26), 3) := dk_167 255 230 (dk_at dksX4_law_2 16 rfl rfl)
theorem dX4_law_64 : decode cX4_law 64 = .ok (.aload_n 0, 1) := dk_42 (dk_at dksX4_law_2 19 rfl rfl)
theorem dX4_law_65 : decode cX4_law 65 = .ok (.aload_n 0, 1) := dk_42 (dk_at dksX4_law_2 20 rfl rfl)
theorem dX4_law_66 : decode cX4_law 66 = .ok (.getfield 66, 3) := dk_180 0 66 (dk_at dksX4_law_2 21 rfl rfl)
theorem dX4_law_69 : decode cX4_law 69 = .ok (.aload_n 0, 1) := dk_42 (dk_at dksX4_law_3 0 rfl rfl)
theorem dX4_law_70 : decode cX4_law 70 = .ok (.getfield 69, 3) := dk_180 0 69 (dk_at dksX4_law_3 1 rfl rfl)
theorem dX4_law_73 : decode cX4_law 73 = .ok (.invokevirtual 114, 3) := dk_182 0 114 (dk_at dksX4_law_3 4 rfl rfl)
theorem dX4_law_76 : decode cX4_law 76 = .ok (.aload_n 0, 1) := dk_42 (dk_at dksX4_law_3 7 rfl rfl)
theorem dX4_law_77 : decode cX4_law 77 = .ok (.invokevirtual 449, 3) := dk_182 1 193 (dk_at dksX4_law_3 8 rfl rfl)
theorem dX4_law_80 : decode cX4_law 80 = .ok (.istore 4, 2) := dk_54 4 (dk_at dksX4_law_3 11 rfl rfl)
theorem dX4_law_82 : decode cX4_law 82 = .ok (.aload_n 0, 1) := dk_42 (dk_at dksX4_law_3 13 rfl rfl)
theorem dX4_law_83 : decode cX4_law 83 = .ok (.aload_n 0, 1) := dk_42 (dk_at dksX4_law_3 14 rfl rfl)
theorem dX4_law_84 : decode cX4_law 84 = .ok (.getfield 185, 3) := dk_180 0 185 (dk_at dksX4_law_3 15 rfl rfl)
theorem dX4_law_87 : decode cX4_law 87 = .ok (.iload_n 3, 1) := dk_29 (dk_at dksX4_law_3 18 rfl rfl)
theorem dX4_law_88 : decode cX4_law 88 = .ok (.invokevirtual 114, 3) := dk_182 0 114 (dk_at dksX4_law_3 19 rfl rfl)
theorem dX4_law_91 : decode cX4_law 91 = .ok (.aload_n 0, 1) := dk_42 (dk_at dksX4_law_3 22 rfl rfl)
theorem dX4_law_92 : decode cX4_law 92 = .ok (.iconst 0, 1) := dk_3 (dk_at dksX4_law_3 23 rfl rfl)
theorem dX4_law_93 : decode cX4_law 93 = .ok (.putfield 11, 3) := dk_181 0 11 (dk_at dksX4_law_4 0 rfl rfl)
theorem dX4_law_96 : decode cX4_law 96 = .ok (.aload_n 0, 1) := dk_42 (dk_at dksX4_law_4 3 rfl rfl)
theorem dX4_law_97 : decode cX4_law 97 = .ok (.iload 4, 2) := dk_21 4 (dk_at dksX4_law_4 4 rfl rfl)
theorem dX4_law_99 : decode cX4_law 99 = .ok (.i2l, 1) := dk_133 (dk_at dksX4_law_4 6 rfl rfl)
theorem dX4_law_100 : decode cX4_law 100 = .ok (.invokevirtual 345, 3) := dk_182 1 89 (dk_at dksX4_law_4 7 rfl rfl)
theorem dX4_law_103 : decode cX4_law 103 = .ok (.aload_n 0, 1) := dk_42 (dk_at dksX4_law_4 10 rfl rfl)
theorem dX4_law_104 : decode cX4_law 104 = .ok (.iload_n 2, 1) := dk_28 (dk_at dksX4_law_4 11 rfl rfl)
theorem dX4_law_105 : decode cX4_law 105 = .ok (.i2l, 1) := dk_133 (dk_at dksX4_law_4 12 rfl rfl)
theorem dX4_law_106 : decode cX4_law 106 = .ok (.invokevirtual 345, 3) := dk_182 1 89 (dk_at dksX4_law_4 13 rfl rfl)
theorem dX4_law_109 : decode cX4_law 109 = .ok (.iload 4, 2) := dk_21 4 (dk_at dksX4_law_4 16 rfl rfl)
theorem dX4_law_111 : decode cX4_law 111 = .ok (.iload_n 2, 1) := dk_28 (dk_at dksX4_law_4 18 rfl rfl)
theorem dX4_law_112 : decode cX4_law 112 = .ok (.isub, 1) := dk_100 (dk_at dksX4_law_4 19 rfl rfl)
theorem dX4_law_113 : decode cX4_law 113 = .ok (.ireturn, 1) := dk_172 (dk_at dksX4_law_4 20 rfl rfl)
abbrev cX4_drainsBy : ByteArray := prog_13_method_114_code
def yX4_drainsBy : MethodName := ⟨RX4, "drainsBy", "()I"⟩
def dkwX4_drainsBy_0 : List UInt8 := [42, 182, 1, 153, 42, 42, 180, 0, 149, 182, 1, 165, 60, 27, 156, 0, 8, 16, 100, 167, 0, 4, 27, 172]
abbrev dktX4_drainsBy_0 : List UInt8 := dkwX4_drainsBy_0 ++ []
theorem dksX4_drainsBy_0 : cX4_drainsBy.data.toList.drop 0 = dktX4_drainsBy_0 := by decide +kernel
theorem dX4_drainsBy_0 : decode cX4_drainsBy 0 = .ok (.aload_n 0, 1) := dk_42 (dk_at dksX4_drainsBy_0 0 rfl rfl)
theorem dX4_drainsBy_1 : decode cX4_drainsBy 1 = .ok (.invokevirtual 409, 3) := dk_182 1 153 (dk_at dksX4_drainsBy_0 1 rfl rfl)
theorem dX4_drainsBy_4 : decode cX4_drainsBy 4 = .ok (.aload_n 0, 1) := dk_42 (dk_at dksX4_drainsBy_0 4 rfl rfl)
theorem dX4_drainsBy_5 : decode cX4_drainsBy 5 = .ok (.aload_n 0, 1) := dk_42 (dk_at dksX4_drainsBy_0 5 rfl rfl)
theorem dX4_drainsBy_6 : decode cX4_drainsBy 6 = .ok (.getfield 149, 3) := dk_180 0 149 (dk_at dksX4_drainsBy_0 6 rfl rfl)
theorem dX4_drainsBy_9 : decode cX4_drainsBy 9 = .ok (.invokevirtual 421, 3) := dk_182 1 165 (dk_at dksX4_drainsBy_0 9 rfl rfl)
theorem dX4_drainsBy_12 : decode cX4_drainsBy 12 = .ok (.istore_n 1, 1) := dk_60 (dk_at dksX4_drainsBy_0 12 rfl rfl)
theorem dX4_drainsBy_13 : decode cX4_drainsBy 13 = .ok (.iload_n 1, 1) := dk_27 (dk_at dksX4_drainsBy_0 13 rfl rfl)
theorem dX4_drainsBy_14 : decode cX4_drainsBy 14 = .ok (.ifCond .ge 8, 3) := dk_156 0 8 (dk_at dksX4_drainsBy_0 14 rfl rfl)
theorem dX4_drainsBy_17 : decode cX4_drainsBy 17 = .ok (.bipush 100, 2) := dk_16 100 (dk_at dksX4_drainsBy_0 17 rfl rfl)
theorem dX4_drainsBy_19 : decode cX4_drainsBy 19 = .ok (.goto 4, 3) := dk_167 0 4 (dk_at dksX4_drainsBy_0 19 rfl rfl)
theorem dX4_drainsBy_22 : decode cX4_drainsBy 22 = .ok (.iload_n 1, 1) := dk_27 (dk_at dksX4_drainsBy_0 22 rfl rfl)
theorem dX4_drainsBy_23 : decode cX4_drainsBy 23 = .ok (.ireturn, 1) := dk_172 (dk_at dksX4_drainsBy_0 23 rfl rfl)
abbrev cX4_years : ByteArray := prog_13_method_118_code
def yX4_years : MethodName := ⟨RX4, "years", "(II)I"⟩
def dkwX4_years_5 : List UInt8 := [42, 180, 0, 149, 17, 3, 59, 46, 133, 182, 1, 89, 29, 172]
abbrev dktX4_years_5 : List UInt8 := dkwX4_years_5 ++ []
def dkwX4_years_4 : List UInt8 := [180, 0, 146, 184, 1, 76, 100, 133, 182, 1, 89, 42, 42, 180, 0, 149, 184, 0, 229, 133, 182, 1, 89, 42]
abbrev dktX4_years_4 : List UInt8 := dkwX4_years_4 ++ dktX4_years_5
def dkwX4_years_3 : List UInt8 := [96, 62, 132, 4, 1, 167, 255, 212, 42, 3, 181, 0, 11, 42, 42, 180, 0, 149, 184, 1, 76, 42]
abbrev dktX4_years_3 : List UInt8 := dkwX4_years_3 ++ dktX4_years_4
def dkwX4_years_2 : List UInt8 := [180, 0, 198, 158, 0, 23, 29, 42, 21, 5, 42, 42, 180, 0, 198, 182, 1, 200, 182, 1, 203, 184, 0, 40]
abbrev dktX4_years_2 : List UInt8 := dkwX4_years_2 ++ dktX4_years_3
def dkwX4_years_1 : List UInt8 := [42, 182, 1, 153, 3, 62, 3, 54, 4, 21, 4, 28, 162, 0, 44, 42, 16, 6, 182, 1, 200, 54, 5, 42]
abbrev dktX4_years_1 : List UInt8 := dkwX4_years_1 ++ dktX4_years_2
def dkwX4_years_0 : List UInt8 := [42, 3, 181, 0, 3, 28, 133, 10, 20, 1, 191, 184, 0, 21, 154, 0, 5, 2, 172, 42, 27, 181, 1, 196]
abbrev dktX4_years_0 : List UInt8 := dkwX4_years_0 ++ dktX4_years_1
theorem dksX4_years_0 : cX4_years.data.toList.drop 0 = dktX4_years_0 := by decide +kernel
theorem dksX4_years_1 : cX4_years.data.toList.drop 24 = dktX4_years_1 := dk_seg dksX4_years_0 24 rfl rfl
theorem dksX4_years_2 : cX4_years.data.toList.drop 48 = dktX4_years_2 := dk_seg dksX4_years_1 24 rfl rfl
theorem dksX4_years_3 : cX4_years.data.toList.drop 72 = dktX4_years_3 := dk_seg dksX4_years_2 24 rfl rfl
theorem dksX4_years_4 : cX4_years.data.toList.drop 94 = dktX4_years_4 := dk_seg dksX4_years_3 22 rfl rfl
theorem dksX4_years_5 : cX4_years.data.toList.drop 118 = dktX4_years_5 := dk_seg dksX4_years_4 24 rfl rfl
theorem dX4_years_0 : decode cX4_years 0 = .ok (.aload_n 0, 1) := dk_42 (dk_at dksX4_years_0 0 rfl rfl)
theorem dX4_years_1 : decode cX4_years 1 = .ok (.iconst 0, 1) := dk_3 (dk_at dksX4_years_0 1 rfl rfl)
theorem dX4_years_2 : decode cX4_years 2 = .ok (.putfield 3, 3) := dk_181 0 3 (dk_at dksX4_years_0 2 rfl rfl)
theorem dX4_years_5 : decode cX4_years 5 = .ok (.iload_n 2, 1) := dk_28 (dk_at dksX4_years_0 5 rfl rfl)
theorem dX4_years_6 : decode cX4_years 6 = .ok (.i2l, 1) := dk_133 (dk_at dksX4_years_0 6 rfl rfl)
theorem dX4_years_7 : decode cX4_years 7 = .ok (.lconst 1, 1) := dk_10 (dk_at dksX4_years_0 7 rfl rfl)
theorem dX4_years_8 : decode cX4_years 8 = .ok (.ldc2_w 447, 3) := dk_20 1 191 (dk_at dksX4_years_0 8 rfl rfl)
theorem dX4_years_11 : decode cX4_years 11 = .ok (.invokestatic 21, 3) := dk_184 0 21 (dk_at dksX4_years_0 11 rfl rfl)
theorem dX4_years_14 : decode cX4_years 14 = .ok (.ifCond .ne 5, 3) := dk_154 0 5 (dk_at dksX4_years_0 14 rfl rfl)
theorem dX4_years_17 : decode cX4_years 17 = .ok (.iconst (-1), 1) := dk_2 (dk_at dksX4_years_0 17 rfl rfl)
theorem dX4_years_18 : decode cX4_years 18 = .ok (.ireturn, 1) := dk_172 (dk_at dksX4_years_0 18 rfl rfl)
theorem dX4_years_19 : decode cX4_years 19 = .ok (.aload_n 0, 1) := dk_42 (dk_at dksX4_years_0 19 rfl rfl)
theorem dX4_years_20 : decode cX4_years 20 = .ok (.iload_n 1, 1) := dk_27 (dk_at dksX4_years_0 20 rfl rfl)
theorem dX4_years_21 : decode cX4_years 21 = .ok (.putfield 452, 3) := dk_181 1 196 (dk_at dksX4_years_0 21 rfl rfl)
theorem dX4_years_24 : decode cX4_years 24 = .ok (.aload_n 0, 1) := dk_42 (dk_at dksX4_years_1 0 rfl rfl)
theorem dX4_years_25 : decode cX4_years 25 = .ok (.invokevirtual 409, 3) := dk_182 1 153 (dk_at dksX4_years_1 1 rfl rfl)
theorem dX4_years_28 : decode cX4_years 28 = .ok (.iconst 0, 1) := dk_3 (dk_at dksX4_years_1 4 rfl rfl)
theorem dX4_years_29 : decode cX4_years 29 = .ok (.istore_n 3, 1) := dk_62 (dk_at dksX4_years_1 5 rfl rfl)
theorem dX4_years_30 : decode cX4_years 30 = .ok (.iconst 0, 1) := dk_3 (dk_at dksX4_years_1 6 rfl rfl)
theorem dX4_years_31 : decode cX4_years 31 = .ok (.istore 4, 2) := dk_54 4 (dk_at dksX4_years_1 7 rfl rfl)
theorem dX4_years_33 : decode cX4_years 33 = .ok (.iload 4, 2) := dk_21 4 (dk_at dksX4_years_1 9 rfl rfl)
theorem dX4_years_35 : decode cX4_years 35 = .ok (.iload_n 2, 1) := dk_28 (dk_at dksX4_years_1 11 rfl rfl)
theorem dX4_years_36 : decode cX4_years 36 = .ok (.if_icmp .ge 44, 3) := dk_162 0 44 (dk_at dksX4_years_1 12 rfl rfl)
theorem dX4_years_39 : decode cX4_years 39 = .ok (.aload_n 0, 1) := dk_42 (dk_at dksX4_years_1 15 rfl rfl)
theorem dX4_years_40 : decode cX4_years 40 = .ok (.bipush 6, 2) := dk_16 6 (dk_at dksX4_years_1 16 rfl rfl)
theorem dX4_years_42 : decode cX4_years 42 = .ok (.invokevirtual 456, 3) := dk_182 1 200 (dk_at dksX4_years_1 18 rfl rfl)
theorem dX4_years_45 : decode cX4_years 45 = .ok (.istore 5, 2) := dk_54 5 (dk_at dksX4_years_1 21 rfl rfl)
theorem dX4_years_47 : decode cX4_years 47 = .ok (.aload_n 0, 1) := dk_42 (dk_at dksX4_years_1 23 rfl rfl)
theorem dX4_years_48 : decode cX4_years 48 = .ok (.getfield 198, 3) := dk_180 0 198 (dk_at dksX4_years_2 0 rfl rfl)
theorem dX4_years_51 : decode cX4_years 51 = .ok (.ifCond .le 23, 3) := dk_158 0 23 (dk_at dksX4_years_2 3 rfl rfl)
theorem dX4_years_54 : decode cX4_years 54 = .ok (.iload_n 3, 1) := dk_29 (dk_at dksX4_years_2 6 rfl rfl)
theorem dX4_years_55 : decode cX4_years 55 = .ok (.aload_n 0, 1) := dk_42 (dk_at dksX4_years_2 7 rfl rfl)
theorem dX4_years_56 : decode cX4_years 56 = .ok (.iload 5, 2) := dk_21 5 (dk_at dksX4_years_2 8 rfl rfl)
theorem dX4_years_58 : decode cX4_years 58 = .ok (.aload_n 0, 1) := dk_42 (dk_at dksX4_years_2 10 rfl rfl)
theorem dX4_years_59 : decode cX4_years 59 = .ok (.aload_n 0, 1) := dk_42 (dk_at dksX4_years_2 11 rfl rfl)
theorem dX4_years_60 : decode cX4_years 60 = .ok (.getfield 198, 3) := dk_180 0 198 (dk_at dksX4_years_2 12 rfl rfl)
theorem dX4_years_63 : decode cX4_years 63 = .ok (.invokevirtual 456, 3) := dk_182 1 200 (dk_at dksX4_years_2 15 rfl rfl)
theorem dX4_years_66 : decode cX4_years 66 = .ok (.invokevirtual 459, 3) := dk_182 1 203 (dk_at dksX4_years_2 18 rfl rfl)
theorem dX4_years_69 : decode cX4_years 69 = .ok (.invokestatic 40, 3) := dk_184 0 40 (dk_at dksX4_years_2 21 rfl rfl)
theorem dX4_years_72 : decode cX4_years 72 = .ok (.iadd, 1) := dk_96 (dk_at dksX4_years_3 0 rfl rfl)
theorem dX4_years_73 : decode cX4_years 73 = .ok (.istore_n 3, 1) := dk_62 (dk_at dksX4_years_3 1 rfl rfl)
theorem dX4_years_74 : decode cX4_years 74 = .ok (.iinc 4 1, 3) := dk_132 4 1 (dk_at dksX4_years_3 2 rfl rfl)
theorem dX4_years_77 : decode cX4_years 77 = .ok (.goto (-44), 3) := dk_167 255 212 (dk_at dksX4_years_3 5 rfl rfl)
theorem dX4_years_80 : decode cX4_years 80 = .ok (.aload_n 0, 1) := dk_42 (dk_at dksX4_years_3 8 rfl rfl)
theorem dX4_years_81 : decode cX4_years 81 = .ok (.iconst 0, 1) := dk_3 (dk_at dksX4_years_3 9 rfl rfl)
theorem dX4_years_82 : decode cX4_years 82 = .ok (.putfield 11, 3) := dk_181 0 11 (dk_at dksX4_years_3 10 rfl rfl)
theorem dX4_years_85 : decode cX4_years 85 = .ok (.aload_n 0, 1) := dk_42 (dk_at dksX4_years_3 13 rfl rfl)
theorem dX4_years_86 : decode cX4_years 86 = .ok (.aload_n 0, 1) := dk_42 (dk_at dksX4_years_3 14 rfl rfl)
theorem dX4_years_87 : decode cX4_years 87 = .ok (.getfield 149, 3) := dk_180 0 149 (dk_at dksX4_years_3 15 rfl rfl)
theorem dX4_years_90 : decode cX4_years 90 = .ok (.invokestatic 332, 3) := dk_184 1 76 (dk_at dksX4_years_3 18 rfl rfl)
theorem dX4_years_93 : decode cX4_years 93 = .ok (.aload_n 0, 1) := dk_42 (dk_at dksX4_years_3 21 rfl rfl)
theorem dX4_years_94 : decode cX4_years 94 = .ok (.getfield 146, 3) := dk_180 0 146 (dk_at dksX4_years_4 0 rfl rfl)
theorem dX4_years_97 : decode cX4_years 97 = .ok (.invokestatic 332, 3) := dk_184 1 76 (dk_at dksX4_years_4 3 rfl rfl)
theorem dX4_years_100 : decode cX4_years 100 = .ok (.isub, 1) := dk_100 (dk_at dksX4_years_4 6 rfl rfl)
theorem dX4_years_101 : decode cX4_years 101 = .ok (.i2l, 1) := dk_133 (dk_at dksX4_years_4 7 rfl rfl)
theorem dX4_years_102 : decode cX4_years 102 = .ok (.invokevirtual 345, 3) := dk_182 1 89 (dk_at dksX4_years_4 8 rfl rfl)
theorem dX4_years_105 : decode cX4_years 105 = .ok (.aload_n 0, 1) := dk_42 (dk_at dksX4_years_4 11 rfl rfl)
theorem dX4_years_106 : decode cX4_years 106 = .ok (.aload_n 0, 1) := dk_42 (dk_at dksX4_years_4 12 rfl rfl)
theorem dX4_years_107 : decode cX4_years 107 = .ok (.getfield 149, 3) := dk_180 0 149 (dk_at dksX4_years_4 13 rfl rfl)
theorem dX4_years_110 : decode cX4_years 110 = .ok (.invokestatic 229, 3) := dk_184 0 229 (dk_at dksX4_years_4 16 rfl rfl)
theorem dX4_years_113 : decode cX4_years 113 = .ok (.i2l, 1) := dk_133 (dk_at dksX4_years_4 19 rfl rfl)
theorem dX4_years_114 : decode cX4_years 114 = .ok (.invokevirtual 345, 3) := dk_182 1 89 (dk_at dksX4_years_4 20 rfl rfl)
theorem dX4_years_117 : decode cX4_years 117 = .ok (.aload_n 0, 1) := dk_42 (dk_at dksX4_years_4 23 rfl rfl)
theorem dX4_years_118 : decode cX4_years 118 = .ok (.aload_n 0, 1) := dk_42 (dk_at dksX4_years_5 0 rfl rfl)
theorem dX4_years_119 : decode cX4_years 119 = .ok (.getfield 149, 3) := dk_180 0 149 (dk_at dksX4_years_5 1 rfl rfl)
theorem dX4_years_122 : decode cX4_years 122 = .ok (.sipush 827, 3) := dk_17 3 59 (dk_at dksX4_years_5 4 rfl rfl)
theorem dX4_years_125 : decode cX4_years 125 = .ok (.iaload, 1) := dk_46 (dk_at dksX4_years_5 7 rfl rfl)
theorem dX4_years_126 : decode cX4_years 126 = .ok (.i2l, 1) := dk_133 (dk_at dksX4_years_5 8 rfl rfl)
theorem dX4_years_127 : decode cX4_years 127 = .ok (.invokevirtual 345, 3) := dk_182 1 89 (dk_at dksX4_years_5 9 rfl rfl)
theorem dX4_years_130 : decode cX4_years 130 = .ok (.iload_n 3, 1) := dk_29 (dk_at dksX4_years_5 12 rfl rfl)
theorem dX4_years_131 : decode cX4_years 131 = .ok (.ireturn, 1) := dk_172 (dk_at dksX4_years_5 13 rfl rfl)
abbrev cX4_draws : ByteArray := prog_13_method_116_code
def yX4_draws : MethodName := ⟨RX4, "draws", "(I)I"⟩
def dkwX4_draws_1 : List UInt8 := [112, 172]
abbrev dktX4_draws_1 : List UInt8 := dkwX4_draws_1 ++ []
def dkwX4_draws_0 : List UInt8 := [42, 42, 180, 1, 196, 19, 1, 199, 104, 17, 48, 57, 96, 181, 1, 196, 42, 180, 1, 196, 16, 16, 124, 27]
abbrev dktX4_draws_0 : List UInt8 := dkwX4_draws_0 ++ dktX4_draws_1
theorem dksX4_draws_0 : cX4_draws.data.toList.drop 0 = dktX4_draws_0 := by decide +kernel
theorem dksX4_draws_1 : cX4_draws.data.toList.drop 24 = dktX4_draws_1 := dk_seg dksX4_draws_0 24 rfl rfl
theorem dX4_draws_0 : decode cX4_draws 0 = .ok (.aload_n 0, 1) := dk_42 (dk_at dksX4_draws_0 0 rfl rfl)
theorem dX4_draws_1 : decode cX4_draws 1 = .ok (.aload_n 0, 1) := dk_42 (dk_at dksX4_draws_0 1 rfl rfl)
theorem dX4_draws_2 : decode cX4_draws 2 = .ok (.getfield 452, 3) := dk_180 1 196 (dk_at dksX4_draws_0 2 rfl rfl)
theorem dX4_draws_5 : decode cX4_draws 5 = .ok (.ldc_w 455, 3) := dk_19 1 199 (dk_at dksX4_draws_0 5 rfl rfl)
theorem dX4_draws_8 : decode cX4_draws 8 = .ok (.imul, 1) := dk_104 (dk_at dksX4_draws_0 8 rfl rfl)
theorem dX4_draws_9 : decode cX4_draws 9 = .ok (.sipush 12345, 3) := dk_17 48 57 (dk_at dksX4_draws_0 9 rfl rfl)
theorem dX4_draws_12 : decode cX4_draws 12 = .ok (.iadd, 1) := dk_96 (dk_at dksX4_draws_0 12 rfl rfl)
theorem dX4_draws_13 : decode cX4_draws 13 = .ok (.putfield 452, 3) := dk_181 1 196 (dk_at dksX4_draws_0 13 rfl rfl)
theorem dX4_draws_16 : decode cX4_draws 16 = .ok (.aload_n 0, 1) := dk_42 (dk_at dksX4_draws_0 16 rfl rfl)
theorem dX4_draws_17 : decode cX4_draws 17 = .ok (.getfield 452, 3) := dk_180 1 196 (dk_at dksX4_draws_0 17 rfl rfl)
theorem dX4_draws_20 : decode cX4_draws 20 = .ok (.bipush 16, 2) := dk_16 16 (dk_at dksX4_draws_0 20 rfl rfl)
theorem dX4_draws_22 : decode cX4_draws 22 = .ok (.iushr, 1) := dk_124 (dk_at dksX4_draws_0 22 rfl rfl)
theorem dX4_draws_23 : decode cX4_draws 23 = .ok (.iload_n 1, 1) := dk_27 (dk_at dksX4_draws_0 23 rfl rfl)
theorem dX4_draws_24 : decode cX4_draws 24 = .ok (.irem, 1) := dk_112 (dk_at dksX4_draws_1 0 rfl rfl)
theorem dX4_draws_25 : decode cX4_draws 25 = .ok (.ireturn, 1) := dk_172 (dk_at dksX4_draws_1 1 rfl rfl)
abbrev cX4_drawnAct : ByteArray := prog_13_method_117_code
def yX4_drawnAct : MethodName := ⟨RX4, "drawnAct", "(II)Z"⟩
def dkwX4_drawnAct_5 : List UInt8 := [54, 4, 42, 42, 180, 0, 149, 28, 29, 21, 4, 42, 16, 100, 182, 1, 200, 182, 1, 102, 87, 3, 172]
abbrev dktX4_drawnAct_5 : List UInt8 := dkwX4_drawnAct_5 ++ []
def dkwX4_drawnAct_4 : List UInt8 := [16, 16, 182, 1, 200, 182, 1, 120, 87, 3, 172, 42, 8, 182, 1, 200, 62, 42, 16, 10, 182, 1, 200]
abbrev dktX4_drawnAct_4 : List UInt8 := dkwX4_drawnAct_4 ++ dktX4_drawnAct_5
def dkwX4_drawnAct_3 : List UInt8 := [180, 0, 149, 28, 182, 1, 117, 155, 0, 7, 4, 167, 0, 4, 3, 172, 42, 42, 180, 0, 149, 28, 42]
abbrev dktX4_drawnAct_3 : List UInt8 := dkwX4_drawnAct_3 ++ dktX4_drawnAct_4
def dkwX4_drawnAct_2 : List UInt8 := [42, 42, 180, 0, 149, 28, 182, 1, 109, 87, 3, 172, 42, 42, 180, 0, 149, 182, 1, 96, 3, 172, 42, 42]
abbrev dktX4_drawnAct_2 : List UInt8 := dkwX4_drawnAct_2 ++ dktX4_drawnAct_3
def dkwX4_drawnAct_1 : List UInt8 := [170, 0, 0, 0, 0, 0, 89, 0, 0, 0, 2, 0, 0, 0, 5, 0, 0, 0, 31, 0, 0, 0, 43, 0, 0, 0, 53, 0, 0, 0, 71]
abbrev dktX4_drawnAct_1 : List UInt8 := dkwX4_drawnAct_1 ++ dktX4_drawnAct_2
def dkwX4_drawnAct_0 : List UInt8 := [27]
abbrev dktX4_drawnAct_0 : List UInt8 := dkwX4_drawnAct_0 ++ dktX4_drawnAct_1
theorem dksX4_drawnAct_0 : cX4_drawnAct.data.toList.drop 0 = dktX4_drawnAct_0 := by decide +kernel
theorem dksX4_drawnAct_1 : cX4_drawnAct.data.toList.drop 1 = dktX4_drawnAct_1 := dk_seg dksX4_drawnAct_0 1 rfl rfl
theorem dksX4_drawnAct_2 : cX4_drawnAct.data.toList.drop 32 = dktX4_drawnAct_2 := dk_seg dksX4_drawnAct_1 31 rfl rfl
theorem dksX4_drawnAct_3 : cX4_drawnAct.data.toList.drop 56 = dktX4_drawnAct_3 := dk_seg dksX4_drawnAct_2 24 rfl rfl
theorem dksX4_drawnAct_4 : cX4_drawnAct.data.toList.drop 79 = dktX4_drawnAct_4 := dk_seg dksX4_drawnAct_3 23 rfl rfl
theorem dksX4_drawnAct_5 : cX4_drawnAct.data.toList.drop 102 = dktX4_drawnAct_5 := dk_seg dksX4_drawnAct_4 23 rfl rfl
theorem dX4_drawnAct_0 : decode cX4_drawnAct 0 = .ok (.iload_n 1, 1) := dk_27 (dk_at dksX4_drawnAct_0 0 rfl rfl)
theorem dX4_drawnAct_1 : decode cX4_drawnAct 1 = .ok (.tableswitch 89 2 5 #[31, 43, 53, 71], 31) := by decide +kernel
theorem dX4_drawnAct_32 : decode cX4_drawnAct 32 = .ok (.aload_n 0, 1) := dk_42 (dk_at dksX4_drawnAct_2 0 rfl rfl)
theorem dX4_drawnAct_33 : decode cX4_drawnAct 33 = .ok (.aload_n 0, 1) := dk_42 (dk_at dksX4_drawnAct_2 1 rfl rfl)
theorem dX4_drawnAct_34 : decode cX4_drawnAct 34 = .ok (.getfield 149, 3) := dk_180 0 149 (dk_at dksX4_drawnAct_2 2 rfl rfl)
theorem dX4_drawnAct_37 : decode cX4_drawnAct 37 = .ok (.iload_n 2, 1) := dk_28 (dk_at dksX4_drawnAct_2 5 rfl rfl)
theorem dX4_drawnAct_38 : decode cX4_drawnAct 38 = .ok (.invokevirtual 365, 3) := dk_182 1 109 (dk_at dksX4_drawnAct_2 6 rfl rfl)
theorem dX4_drawnAct_41 : decode cX4_drawnAct 41 = .ok (.pop, 1) := dk_87 (dk_at dksX4_drawnAct_2 9 rfl rfl)
theorem dX4_drawnAct_42 : decode cX4_drawnAct 42 = .ok (.iconst 0, 1) := dk_3 (dk_at dksX4_drawnAct_2 10 rfl rfl)
theorem dX4_drawnAct_43 : decode cX4_drawnAct 43 = .ok (.ireturn, 1) := dk_172 (dk_at dksX4_drawnAct_2 11 rfl rfl)
theorem dX4_drawnAct_44 : decode cX4_drawnAct 44 = .ok (.aload_n 0, 1) := dk_42 (dk_at dksX4_drawnAct_2 12 rfl rfl)
theorem dX4_drawnAct_45 : decode cX4_drawnAct 45 = .ok (.aload_n 0, 1) := dk_42 (dk_at dksX4_drawnAct_2 13 rfl rfl)
theorem dX4_drawnAct_46 : decode cX4_drawnAct 46 = .ok (.getfield 149, 3) := dk_180 0 149 (dk_at dksX4_drawnAct_2 14 rfl rfl)
theorem dX4_drawnAct_49 : decode cX4_drawnAct 49 = .ok (.invokevirtual 352, 3) := dk_182 1 96 (dk_at dksX4_drawnAct_2 17 rfl rfl)
theorem dX4_drawnAct_52 : decode cX4_drawnAct 52 = .ok (.iconst 0, 1) := dk_3 (dk_at dksX4_drawnAct_2 20 rfl rfl)
theorem dX4_drawnAct_53 : decode cX4_drawnAct 53 = .ok (.ireturn, 1) := dk_172 (dk_at dksX4_drawnAct_2 21 rfl rfl)
theorem dX4_drawnAct_54 : decode cX4_drawnAct 54 = .ok (.aload_n 0, 1) := dk_42 (dk_at dksX4_drawnAct_2 22 rfl rfl)
theorem dX4_drawnAct_55 : decode cX4_drawnAct 55 = .ok (.aload_n 0, 1) := dk_42 (dk_at dksX4_drawnAct_2 23 rfl rfl)
theorem dX4_drawnAct_56 : decode cX4_drawnAct 56 = .ok (.getfield 149, 3) := dk_180 0 149 (dk_at dksX4_drawnAct_3 0 rfl rfl)
theorem dX4_drawnAct_59 : decode cX4_drawnAct 59 = .ok (.iload_n 2, 1) := dk_28 (dk_at dksX4_drawnAct_3 3 rfl rfl)
theorem dX4_drawnAct_60 : decode cX4_drawnAct 60 = .ok (.invokevirtual 373, 3) := dk_182 1 117 (dk_at dksX4_drawnAct_3 4 rfl rfl)
theorem dX4_drawnAct_63 : decode cX4_drawnAct 63 = .ok (.ifCond .lt 7, 3) := dk_155 0 7 (dk_at dksX4_drawnAct_3 7 rfl rfl)
theorem dX4_drawnAct_66 : decode cX4_drawnAct 66 = .ok (.iconst 1, 1) := dk_4 (dk_at dksX4_drawnAct_3 10 rfl rfl)
theorem dX4_drawnAct_67 : decode cX4_drawnAct 67 = .ok (.goto 4, 3) := dk_167 0 4 (dk_at dksX4_drawnAct_3 11 rfl rfl)
theorem dX4_drawnAct_70 : decode cX4_drawnAct 70 = .ok (.iconst 0, 1) := dk_3 (dk_at dksX4_drawnAct_3 14 rfl rfl)
theorem dX4_drawnAct_71 : decode cX4_drawnAct 71 = .ok (.ireturn, 1) := dk_172 (dk_at dksX4_drawnAct_3 15 rfl rfl)
theorem dX4_drawnAct_72 : decode cX4_drawnAct 72 = .ok (.aload_n 0, 1) := dk_42 (dk_at dksX4_drawnAct_3 16 rfl rfl)
theorem dX4_drawnAct_73 : decode cX4_drawnAct 73 = .ok (.aload_n 0, 1) := dk_42 (dk_at dksX4_drawnAct_3 17 rfl rfl)
theorem dX4_drawnAct_74 : decode cX4_drawnAct 74 = .ok (.getfield 149, 3) := dk_180 0 149 (dk_at dksX4_drawnAct_3 18 rfl rfl)
theorem dX4_drawnAct_77 : decode cX4_drawnAct 77 = .ok (.iload_n 2, 1) := dk_28 (dk_at dksX4_drawnAct_3 21 rfl rfl)
theorem dX4_drawnAct_78 : decode cX4_drawnAct 78 = .ok (.aload_n 0, 1) := dk_42 (dk_at dksX4_drawnAct_3 22 rfl rfl)
theorem dX4_drawnAct_79 : decode cX4_drawnAct 79 = .ok (.bipush 16, 2) := dk_16 16 (dk_at dksX4_drawnAct_4 0 rfl rfl)
theorem dX4_drawnAct_81 : decode cX4_drawnAct 81 = .ok (.invokevirtual 456, 3) := dk_182 1 200 (dk_at dksX4_drawnAct_4 2 rfl rfl)
theorem dX4_drawnAct_84 : decode cX4_drawnAct 84 = .ok (.invokevirtual 376, 3) := dk_182 1 120 (dk_at dksX4_drawnAct_4 5 rfl rfl)
theorem dX4_drawnAct_87 : decode cX4_drawnAct 87 = .ok (.pop, 1) := dk_87 (dk_at dksX4_drawnAct_4 8 rfl rfl)
theorem dX4_drawnAct_88 : decode cX4_drawnAct 88 = .ok (.iconst 0, 1) := dk_3 (dk_at dksX4_drawnAct_4 9 rfl rfl)
theorem dX4_drawnAct_89 : decode cX4_drawnAct 89 = .ok (.ireturn, 1) := dk_172 (dk_at dksX4_drawnAct_4 10 rfl rfl)
theorem dX4_drawnAct_90 : decode cX4_drawnAct 90 = .ok (.aload_n 0, 1) := dk_42 (dk_at dksX4_drawnAct_4 11 rfl rfl)
theorem dX4_drawnAct_91 : decode cX4_drawnAct 91 = .ok (.iconst 5, 1) := dk_8 (dk_at dksX4_drawnAct_4 12 rfl rfl)
theorem dX4_drawnAct_92 : decode cX4_drawnAct 92 = .ok (.invokevirtual 456, 3) := dk_182 1 200 (dk_at dksX4_drawnAct_4 13 rfl rfl)
theorem dX4_drawnAct_95 : decode cX4_drawnAct 95 = .ok (.istore_n 3, 1) := dk_62 (dk_at dksX4_drawnAct_4 16 rfl rfl)
theorem dX4_drawnAct_96 : decode cX4_drawnAct 96 = .ok (.aload_n 0, 1) := dk_42 (dk_at dksX4_drawnAct_4 17 rfl rfl)
theorem dX4_drawnAct_97 : decode cX4_drawnAct 97 = .ok (.bipush 10, 2) := dk_16 10 (dk_at dksX4_drawnAct_4 18 rfl rfl)
theorem dX4_drawnAct_99 : decode cX4_drawnAct 99 = .ok (.invokevirtual 456, 3) := dk_182 1 200 (dk_at dksX4_drawnAct_4 20 rfl rfl)
theorem dX4_drawnAct_102 : decode cX4_drawnAct 102 = .ok (.istore 4, 2) := dk_54 4 (dk_at dksX4_drawnAct_5 0 rfl rfl)
theorem dX4_drawnAct_104 : decode cX4_drawnAct 104 = .ok (.aload_n 0, 1) := dk_42 (dk_at dksX4_drawnAct_5 2 rfl rfl)
theorem dX4_drawnAct_105 : decode cX4_drawnAct 105 = .ok (.aload_n 0, 1) := dk_42 (dk_at dksX4_drawnAct_5 3 rfl rfl)
theorem dX4_drawnAct_106 : decode cX4_drawnAct 106 = .ok (.getfield 149, 3) := dk_180 0 149 (dk_at dksX4_drawnAct_5 4 rfl rfl)
theorem dX4_drawnAct_109 : decode cX4_drawnAct 109 = .ok (.iload_n 2, 1) := dk_28 (dk_at dksX4_drawnAct_5 7 rfl rfl)
theorem dX4_drawnAct_110 : decode cX4_drawnAct 110 = .ok (.iload_n 3, 1) := dk_29 (dk_at dksX4_drawnAct_5 8 rfl rfl)
theorem dX4_drawnAct_111 : decode cX4_drawnAct 111 = .ok (.iload 4, 2) := dk_21 4 (dk_at dksX4_drawnAct_5 9 rfl rfl)
theorem dX4_drawnAct_113 : decode cX4_drawnAct 113 = .ok (.aload_n 0, 1) := dk_42 (dk_at dksX4_drawnAct_5 11 rfl rfl)
theorem dX4_drawnAct_114 : decode cX4_drawnAct 114 = .ok (.bipush 100, 2) := dk_16 100 (dk_at dksX4_drawnAct_5 12 rfl rfl)
theorem dX4_drawnAct_116 : decode cX4_drawnAct 116 = .ok (.invokevirtual 456, 3) := dk_182 1 200 (dk_at dksX4_drawnAct_5 14 rfl rfl)
theorem dX4_drawnAct_119 : decode cX4_drawnAct 119 = .ok (.invokevirtual 358, 3) := dk_182 1 102 (dk_at dksX4_drawnAct_5 17 rfl rfl)
theorem dX4_drawnAct_122 : decode cX4_drawnAct 122 = .ok (.pop, 1) := dk_87 (dk_at dksX4_drawnAct_5 20 rfl rfl)
theorem dX4_drawnAct_123 : decode cX4_drawnAct 123 = .ok (.iconst 0, 1) := dk_3 (dk_at dksX4_drawnAct_5 21 rfl rfl)
theorem dX4_drawnAct_124 : decode cX4_drawnAct 124 = .ok (.ireturn, 1) := dk_172 (dk_at dksX4_drawnAct_5 22 rfl rfl)
abbrev cX4_keep : ByteArray := prog_13_method_119_code
def yX4_keep : MethodName := ⟨RX4, "keep", "(I)Z"⟩
def dkwX4_keep_2 : List UInt8 := [17, 3, 76, 27, 104, 28, 96, 42, 180, 0, 146, 28, 46, 79, 132, 2, 1, 167, 255, 228, 4, 172]
abbrev dktX4_keep_2 : List UInt8 := dkwX4_keep_2 ++ []
def dkwX4_keep_1 : List UInt8 := [42, 180, 0, 192, 27, 42, 180, 0, 209, 79, 3, 61, 28, 17, 3, 76, 162, 0, 27, 42, 180, 0, 195]
abbrev dktX4_keep_1 : List UInt8 := dkwX4_keep_1 ++ dktX4_keep_2
def dkwX4_keep_0 : List UInt8 := [42, 3, 181, 0, 3, 27, 133, 9, 10, 184, 0, 21, 154, 0, 5, 3, 172, 42, 180, 0, 188, 27, 4, 84]
abbrev dktX4_keep_0 : List UInt8 := dkwX4_keep_0 ++ dktX4_keep_1
theorem dksX4_keep_0 : cX4_keep.data.toList.drop 0 = dktX4_keep_0 := by decide +kernel
theorem dksX4_keep_1 : cX4_keep.data.toList.drop 24 = dktX4_keep_1 := dk_seg dksX4_keep_0 24 rfl rfl
theorem dksX4_keep_2 : cX4_keep.data.toList.drop 47 = dktX4_keep_2 := dk_seg dksX4_keep_1 23 rfl rfl
theorem dX4_keep_0 : decode cX4_keep 0 = .ok (.aload_n 0, 1) := dk_42 (dk_at dksX4_keep_0 0 rfl rfl)
theorem dX4_keep_1 : decode cX4_keep 1 = .ok (.iconst 0, 1) := dk_3 (dk_at dksX4_keep_0 1 rfl rfl)
theorem dX4_keep_2 : decode cX4_keep 2 = .ok (.putfield 3, 3) := dk_181 0 3 (dk_at dksX4_keep_0 2 rfl rfl)
theorem dX4_keep_5 : decode cX4_keep 5 = .ok (.iload_n 1, 1) := dk_27 (dk_at dksX4_keep_0 5 rfl rfl)
theorem dX4_keep_6 : decode cX4_keep 6 = .ok (.i2l, 1) := dk_133 (dk_at dksX4_keep_0 6 rfl rfl)
theorem dX4_keep_7 : decode cX4_keep 7 = .ok (.lconst 0, 1) := dk_9 (dk_at dksX4_keep_0 7 rfl rfl)
theorem dX4_keep_8 : decode cX4_keep 8 = .ok (.lconst 1, 1) := dk_10 (dk_at dksX4_keep_0 8 rfl rfl)
theorem dX4_keep_9 : decode cX4_keep 9 = .ok (.invokestatic 21, 3) := dk_184 0 21 (dk_at dksX4_keep_0 9 rfl rfl)
theorem dX4_keep_12 : decode cX4_keep 12 = .ok (.ifCond .ne 5, 3) := dk_154 0 5 (dk_at dksX4_keep_0 12 rfl rfl)
theorem dX4_keep_15 : decode cX4_keep 15 = .ok (.iconst 0, 1) := dk_3 (dk_at dksX4_keep_0 15 rfl rfl)
theorem dX4_keep_16 : decode cX4_keep 16 = .ok (.ireturn, 1) := dk_172 (dk_at dksX4_keep_0 16 rfl rfl)
theorem dX4_keep_17 : decode cX4_keep 17 = .ok (.aload_n 0, 1) := dk_42 (dk_at dksX4_keep_0 17 rfl rfl)
theorem dX4_keep_18 : decode cX4_keep 18 = .ok (.getfield 188, 3) := dk_180 0 188 (dk_at dksX4_keep_0 18 rfl rfl)
theorem dX4_keep_21 : decode cX4_keep 21 = .ok (.iload_n 1, 1) := dk_27 (dk_at dksX4_keep_0 21 rfl rfl)
theorem dX4_keep_22 : decode cX4_keep 22 = .ok (.iconst 1, 1) := dk_4 (dk_at dksX4_keep_0 22 rfl rfl)
theorem dX4_keep_23 : decode cX4_keep 23 = .ok (.bastore, 1) := dk_84 (dk_at dksX4_keep_0 23 rfl rfl)
theorem dX4_keep_24 : decode cX4_keep 24 = .ok (.aload_n 0, 1) := dk_42 (dk_at dksX4_keep_1 0 rfl rfl)
theorem dX4_keep_25 : decode cX4_keep 25 = .ok (.getfield 192, 3) := dk_180 0 192 (dk_at dksX4_keep_1 1 rfl rfl)
theorem dX4_keep_28 : decode cX4_keep 28 = .ok (.iload_n 1, 1) := dk_27 (dk_at dksX4_keep_1 4 rfl rfl)
theorem dX4_keep_29 : decode cX4_keep 29 = .ok (.aload_n 0, 1) := dk_42 (dk_at dksX4_keep_1 5 rfl rfl)
theorem dX4_keep_30 : decode cX4_keep 30 = .ok (.getfield 209, 3) := dk_180 0 209 (dk_at dksX4_keep_1 6 rfl rfl)
theorem dX4_keep_33 : decode cX4_keep 33 = .ok (.iastore, 1) := dk_79 (dk_at dksX4_keep_1 9 rfl rfl)
theorem dX4_keep_34 : decode cX4_keep 34 = .ok (.iconst 0, 1) := dk_3 (dk_at dksX4_keep_1 10 rfl rfl)
theorem dX4_keep_35 : decode cX4_keep 35 = .ok (.istore_n 2, 1) := dk_61 (dk_at dksX4_keep_1 11 rfl rfl)
theorem dX4_keep_36 : decode cX4_keep 36 = .ok (.iload_n 2, 1) := dk_28 (dk_at dksX4_keep_1 12 rfl rfl)
theorem dX4_keep_37 : decode cX4_keep 37 = .ok (.sipush 844, 3) := dk_17 3 76 (dk_at dksX4_keep_1 13 rfl rfl)
theorem dX4_keep_40 : decode cX4_keep 40 = .ok (.if_icmp .ge 27, 3) := dk_162 0 27 (dk_at dksX4_keep_1 16 rfl rfl)
theorem dX4_keep_43 : decode cX4_keep 43 = .ok (.aload_n 0, 1) := dk_42 (dk_at dksX4_keep_1 19 rfl rfl)
theorem dX4_keep_44 : decode cX4_keep 44 = .ok (.getfield 195, 3) := dk_180 0 195 (dk_at dksX4_keep_1 20 rfl rfl)
theorem dX4_keep_47 : decode cX4_keep 47 = .ok (.sipush 844, 3) := dk_17 3 76 (dk_at dksX4_keep_2 0 rfl rfl)
theorem dX4_keep_50 : decode cX4_keep 50 = .ok (.iload_n 1, 1) := dk_27 (dk_at dksX4_keep_2 3 rfl rfl)
theorem dX4_keep_51 : decode cX4_keep 51 = .ok (.imul, 1) := dk_104 (dk_at dksX4_keep_2 4 rfl rfl)
theorem dX4_keep_52 : decode cX4_keep 52 = .ok (.iload_n 2, 1) := dk_28 (dk_at dksX4_keep_2 5 rfl rfl)
theorem dX4_keep_53 : decode cX4_keep 53 = .ok (.iadd, 1) := dk_96 (dk_at dksX4_keep_2 6 rfl rfl)
theorem dX4_keep_54 : decode cX4_keep 54 = .ok (.aload_n 0, 1) := dk_42 (dk_at dksX4_keep_2 7 rfl rfl)
theorem dX4_keep_55 : decode cX4_keep 55 = .ok (.getfield 146, 3) := dk_180 0 146 (dk_at dksX4_keep_2 8 rfl rfl)
theorem dX4_keep_58 : decode cX4_keep 58 = .ok (.iload_n 2, 1) := dk_28 (dk_at dksX4_keep_2 11 rfl rfl)
theorem dX4_keep_59 : decode cX4_keep 59 = .ok (.iaload, 1) := dk_46 (dk_at dksX4_keep_2 12 rfl rfl)
theorem dX4_keep_60 : decode cX4_keep 60 = .ok (.iastore, 1) := dk_79 (dk_at dksX4_keep_2 13 rfl rfl)
theorem dX4_keep_61 : decode cX4_keep 61 = .ok (.iinc 2 1, 3) := dk_132 2 1 (dk_at dksX4_keep_2 14 rfl rfl)
theorem dX4_keep_64 : decode cX4_keep 64 = .ok (.goto (-28), 3) := dk_167 255 228 (dk_at dksX4_keep_2 17 rfl rfl)
theorem dX4_keep_67 : decode cX4_keep 67 = .ok (.iconst 1, 1) := dk_4 (dk_at dksX4_keep_2 20 rfl rfl)
theorem dX4_keep_68 : decode cX4_keep 68 = .ok (.ireturn, 1) := dk_172 (dk_at dksX4_keep_2 21 rfl rfl)
abbrev cX4_again : ByteArray := prog_13_method_120_code
def yX4_again : MethodName := ⟨RX4, "again", "(I)Z"⟩
def dkwX4_again_3 : List UInt8 := [42, 3, 181, 0, 206, 4, 172]
abbrev dktX4_again_3 : List UInt8 := dkwX4_again_3 ++ []
def dkwX4_again_2 : List UInt8 := [42, 180, 0, 146, 28, 42, 180, 0, 195, 17, 3, 76, 27, 104, 28, 96, 46, 79, 132, 2, 1, 167, 255, 228]
abbrev dktX4_again_2 : List UInt8 := dkwX4_again_2 ++ dktX4_again_3
def dkwX4_again_1 : List UInt8 := [42, 180, 0, 192, 27, 46, 42, 180, 0, 209, 159, 0, 5, 3, 172, 3, 61, 28, 17, 3, 76, 162, 0, 27]
abbrev dktX4_again_1 : List UInt8 := dkwX4_again_1 ++ dktX4_again_2
def dkwX4_again_0 : List UInt8 := [42, 3, 181, 0, 3, 27, 133, 9, 10, 184, 0, 21, 153, 0, 25, 42, 180, 0, 188, 27, 51, 153, 0, 16]
abbrev dktX4_again_0 : List UInt8 := dkwX4_again_0 ++ dktX4_again_1
theorem dksX4_again_0 : cX4_again.data.toList.drop 0 = dktX4_again_0 := by decide +kernel
theorem dksX4_again_1 : cX4_again.data.toList.drop 24 = dktX4_again_1 := dk_seg dksX4_again_0 24 rfl rfl
theorem dksX4_again_2 : cX4_again.data.toList.drop 48 = dktX4_again_2 := dk_seg dksX4_again_1 24 rfl rfl
theorem dksX4_again_3 : cX4_again.data.toList.drop 72 = dktX4_again_3 := dk_seg dksX4_again_2 24 rfl rfl
theorem dX4_again_0 : decode cX4_again 0 = .ok (.aload_n 0, 1) := dk_42 (dk_at dksX4_again_0 0 rfl rfl)
theorem dX4_again_1 : decode cX4_again 1 = .ok (.iconst 0, 1) := dk_3 (dk_at dksX4_again_0 1 rfl rfl)
theorem dX4_again_2 : decode cX4_again 2 = .ok (.putfield 3, 3) := dk_181 0 3 (dk_at dksX4_again_0 2 rfl rfl)
theorem dX4_again_5 : decode cX4_again 5 = .ok (.iload_n 1, 1) := dk_27 (dk_at dksX4_again_0 5 rfl rfl)
theorem dX4_again_6 : decode cX4_again 6 = .ok (.i2l, 1) := dk_133 (dk_at dksX4_again_0 6 rfl rfl)
theorem dX4_again_7 : decode cX4_again 7 = .ok (.lconst 0, 1) := dk_9 (dk_at dksX4_again_0 7 rfl rfl)
theorem dX4_again_8 : decode cX4_again 8 = .ok (.lconst 1, 1) := dk_10 (dk_at dksX4_again_0 8 rfl rfl)
theorem dX4_again_9 : decode cX4_again 9 = .ok (.invokestatic 21, 3) := dk_184 0 21 (dk_at dksX4_again_0 9 rfl rfl)
theorem dX4_again_12 : decode cX4_again 12 = .ok (.ifCond .eq 25, 3) := dk_153 0 25 (dk_at dksX4_again_0 12 rfl rfl)
theorem dX4_again_15 : decode cX4_again 15 = .ok (.aload_n 0, 1) := dk_42 (dk_at dksX4_again_0 15 rfl rfl)
theorem dX4_again_16 : decode cX4_again 16 = .ok (.getfield 188, 3) := dk_180 0 188 (dk_at dksX4_again_0 16 rfl rfl)
theorem dX4_again_19 : decode cX4_again 19 = .ok (.iload_n 1, 1) := dk_27 (dk_at dksX4_again_0 19 rfl rfl)
theorem dX4_again_20 : decode cX4_again 20 = .ok (.baload, 1) := dk_51 (dk_at dksX4_again_0 20 rfl rfl)
theorem dX4_again_21 : decode cX4_again 21 = .ok (.ifCond .eq 16, 3) := dk_153 0 16 (dk_at dksX4_again_0 21 rfl rfl)
theorem dX4_again_24 : decode cX4_again 24 = .ok (.aload_n 0, 1) := dk_42 (dk_at dksX4_again_1 0 rfl rfl)
theorem dX4_again_25 : decode cX4_again 25 = .ok (.getfield 192, 3) := dk_180 0 192 (dk_at dksX4_again_1 1 rfl rfl)
theorem dX4_again_28 : decode cX4_again 28 = .ok (.iload_n 1, 1) := dk_27 (dk_at dksX4_again_1 4 rfl rfl)
theorem dX4_again_29 : decode cX4_again 29 = .ok (.iaload, 1) := dk_46 (dk_at dksX4_again_1 5 rfl rfl)
theorem dX4_again_30 : decode cX4_again 30 = .ok (.aload_n 0, 1) := dk_42 (dk_at dksX4_again_1 6 rfl rfl)
theorem dX4_again_31 : decode cX4_again 31 = .ok (.getfield 209, 3) := dk_180 0 209 (dk_at dksX4_again_1 7 rfl rfl)
theorem dX4_again_34 : decode cX4_again 34 = .ok (.if_icmp .eq 5, 3) := dk_159 0 5 (dk_at dksX4_again_1 10 rfl rfl)
theorem dX4_again_37 : decode cX4_again 37 = .ok (.iconst 0, 1) := dk_3 (dk_at dksX4_again_1 13 rfl rfl)
theorem dX4_again_38 : decode cX4_again 38 = .ok (.ireturn, 1) := dk_172 (dk_at dksX4_again_1 14 rfl rfl)
theorem dX4_again_39 : decode cX4_again 39 = .ok (.iconst 0, 1) := dk_3 (dk_at dksX4_again_1 15 rfl rfl)
theorem dX4_again_40 : decode cX4_again 40 = .ok (.istore_n 2, 1) := dk_61 (dk_at dksX4_again_1 16 rfl rfl)
theorem dX4_again_41 : decode cX4_again 41 = .ok (.iload_n 2, 1) := dk_28 (dk_at dksX4_again_1 17 rfl rfl)
theorem dX4_again_42 : decode cX4_again 42 = .ok (.sipush 844, 3) := dk_17 3 76 (dk_at dksX4_again_1 18 rfl rfl)
theorem dX4_again_45 : decode cX4_again 45 = .ok (.if_icmp .ge 27, 3) := dk_162 0 27 (dk_at dksX4_again_1 21 rfl rfl)
theorem dX4_again_48 : decode cX4_again 48 = .ok (.aload_n 0, 1) := dk_42 (dk_at dksX4_again_2 0 rfl rfl)
theorem dX4_again_49 : decode cX4_again 49 = .ok (.getfield 146, 3) := dk_180 0 146 (dk_at dksX4_again_2 1 rfl rfl)
theorem dX4_again_52 : decode cX4_again 52 = .ok (.iload_n 2, 1) := dk_28 (dk_at dksX4_again_2 4 rfl rfl)
theorem dX4_again_53 : decode cX4_again 53 = .ok (.aload_n 0, 1) := dk_42 (dk_at dksX4_again_2 5 rfl rfl)
theorem dX4_again_54 : decode cX4_again 54 = .ok (.getfield 195, 3) := dk_180 0 195 (dk_at dksX4_again_2 6 rfl rfl)
theorem dX4_again_57 : decode cX4_again 57 = .ok (.sipush 844, 3) := dk_17 3 76 (dk_at dksX4_again_2 9 rfl rfl)
theorem dX4_again_60 : decode cX4_again 60 = .ok (.iload_n 1, 1) := dk_27 (dk_at dksX4_again_2 12 rfl rfl)
theorem dX4_again_61 : decode cX4_again 61 = .ok (.imul, 1) := dk_104 (dk_at dksX4_again_2 13 rfl rfl)
theorem dX4_again_62 : decode cX4_again 62 = .ok (.iload_n 2, 1) := dk_28 (dk_at dksX4_again_2 14 rfl rfl)
theorem dX4_again_63 : decode cX4_again 63 = .ok (.iadd, 1) := dk_96 (dk_at dksX4_again_2 15 rfl rfl)
theorem dX4_again_64 : decode cX4_again 64 = .ok (.iaload, 1) := dk_46 (dk_at dksX4_again_2 16 rfl rfl)
theorem dX4_again_65 : decode cX4_again 65 = .ok (.iastore, 1) := dk_79 (dk_at dksX4_again_2 17 rfl rfl)
theorem dX4_again_66 : decode cX4_again 66 = .ok (.iinc 2 1, 3) := dk_132 2 1 (dk_at dksX4_again_2 18 rfl rfl)
theorem dX4_again_69 : decode cX4_again 69 = .ok (.goto (-28), 3) := dk_167 255 228 (dk_at dksX4_again_2 21 rfl rfl)
theorem dX4_again_72 : decode cX4_again 72 = .ok (.aload_n 0, 1) := dk_42 (dk_at dksX4_again_3 0 rfl rfl)
theorem dX4_again_73 : decode cX4_again 73 = .ok (.iconst 0, 1) := dk_3 (dk_at dksX4_again_3 1 rfl rfl)
theorem dX4_again_74 : decode cX4_again 74 = .ok (.putfield 206, 3) := dk_181 0 206 (dk_at dksX4_again_3 2 rfl rfl)
theorem dX4_again_77 : decode cX4_again 77 = .ok (.iconst 1, 1) := dk_4 (dk_at dksX4_again_3 5 rfl rfl)
theorem dX4_again_78 : decode cX4_again 78 = .ok (.ireturn, 1) := dk_172 (dk_at dksX4_again_3 6 rfl rfl)
abbrev cX4_count : ByteArray := prog_13_method_121_code
def yX4_count : MethodName := ⟨RX4, "count", "(I)I"⟩
def dkwX4_count_8 : List UInt8 := [180, 0, 14, 172, 16, 156, 172]
abbrev dktX4_count_8 : List UInt8 := dkwX4_count_8 ++ []
def dkwX4_count_7 : List UInt8 := [180, 0, 146, 184, 0, 229, 172, 42, 180, 1, 171, 172, 42, 180, 0, 206, 172, 42, 180, 0, 11, 172, 42]
abbrev dktX4_count_7 : List UInt8 := dkwX4_count_7 ++ dktX4_count_8
def dkwX4_count_6 : List UInt8 := [172, 29, 172, 42, 180, 0, 146, 17, 3, 59, 46, 172, 42, 180, 0, 146, 17, 3, 58, 46, 172, 42]
abbrev dktX4_count_6 : List UInt8 := dkwX4_count_6 ++ dktX4_count_7
def dkwX4_count_5 : List UInt8 := [42, 180, 0, 198, 172, 28, 172, 42, 180, 0, 146, 17, 1, 237, 46, 172, 42, 180, 0, 146, 17, 3, 46, 46]
abbrev dktX4_count_5 : List UInt8 := dkwX4_count_5 ++ dktX4_count_6
def dkwX4_count_4 : List UInt8 := [170, 0, 0, 0, 0, 0, 136, 0, 0, 0, 0, 0, 0, 0, 11, 0, 0, 0, 63, 0, 0, 0, 68, 0, 0, 0, 70, 0, 0, 0, 79, 0, 0, 0, 88, 0, 0, 0, 90, 0, 0, 0, 99, 0, 0, 0, 108, 0, 0, 0, 116, 0, 0, 0, 121, 0, 0, 0, 126, 0, 0, 0, 131]
abbrev dktX4_count_4 : List UInt8 := dkwX4_count_4 ++ dktX4_count_5
def dkwX4_count_3 : List UInt8 := [132, 4, 1, 167, 255, 195, 27]
abbrev dktX4_count_3 : List UInt8 := dkwX4_count_3 ++ dktX4_count_4
def dkwX4_count_2 : List UInt8 := [180, 0, 146, 21, 4, 8, 184, 0, 220, 42, 180, 0, 146, 21, 4, 16, 6, 184, 0, 220, 100, 96, 62]
abbrev dktX4_count_2 : List UInt8 := dkwX4_count_2 ++ dktX4_count_3
def dkwX4_count_1 : List UInt8 := [180, 0, 146, 21, 4, 3, 184, 0, 220, 42, 180, 0, 146, 21, 4, 6, 184, 0, 220, 100, 96, 61, 29, 42]
abbrev dktX4_count_1 : List UInt8 := dkwX4_count_1 ++ dktX4_count_2
def dkwX4_count_0 : List UInt8 := [42, 3, 181, 0, 3, 3, 61, 3, 62, 3, 54, 4, 21, 4, 42, 180, 0, 198, 162, 0, 58, 28, 42]
abbrev dktX4_count_0 : List UInt8 := dkwX4_count_0 ++ dktX4_count_1
theorem dksX4_count_0 : cX4_count.data.toList.drop 0 = dktX4_count_0 := by decide +kernel
theorem dksX4_count_1 : cX4_count.data.toList.drop 23 = dktX4_count_1 := dk_seg dksX4_count_0 23 rfl rfl
theorem dksX4_count_2 : cX4_count.data.toList.drop 47 = dktX4_count_2 := dk_seg dksX4_count_1 24 rfl rfl
theorem dksX4_count_3 : cX4_count.data.toList.drop 70 = dktX4_count_3 := dk_seg dksX4_count_2 23 rfl rfl
theorem dksX4_count_4 : cX4_count.data.toList.drop 77 = dktX4_count_4 := dk_seg dksX4_count_3 7 rfl rfl
theorem dksX4_count_5 : cX4_count.data.toList.drop 140 = dktX4_count_5 := dk_seg dksX4_count_4 63 rfl rfl
theorem dksX4_count_6 : cX4_count.data.toList.drop 164 = dktX4_count_6 := dk_seg dksX4_count_5 24 rfl rfl
theorem dksX4_count_7 : cX4_count.data.toList.drop 186 = dktX4_count_7 := dk_seg dksX4_count_6 22 rfl rfl
theorem dksX4_count_8 : cX4_count.data.toList.drop 209 = dktX4_count_8 := dk_seg dksX4_count_7 23 rfl rfl
theorem dX4_count_0 : decode cX4_count 0 = .ok (.aload_n 0, 1) := dk_42 (dk_at dksX4_count_0 0 rfl rfl)
theorem dX4_count_1 : decode cX4_count 1 = .ok (.iconst 0, 1) := dk_3 (dk_at dksX4_count_0 1 rfl rfl)
theorem dX4_count_2 : decode cX4_count 2 = .ok (.putfield 3, 3) := dk_181 0 3 (dk_at dksX4_count_0 2 rfl rfl)
theorem dX4_count_5 : decode cX4_count 5 = .ok (.iconst 0, 1) := dk_3 (dk_at dksX4_count_0 5 rfl rfl)
theorem dX4_count_6 : decode cX4_count 6 = .ok (.istore_n 2, 1) := dk_61 (dk_at dksX4_count_0 6 rfl rfl)
theorem dX4_count_7 : decode cX4_count 7 = .ok (.iconst 0, 1) := dk_3 (dk_at dksX4_count_0 7 rfl rfl)
theorem dX4_count_8 : decode cX4_count 8 = .ok (.istore_n 3, 1) := dk_62 (dk_at dksX4_count_0 8 rfl rfl)
theorem dX4_count_9 : decode cX4_count 9 = .ok (.iconst 0, 1) := dk_3 (dk_at dksX4_count_0 9 rfl rfl)
theorem dX4_count_10 : decode cX4_count 10 = .ok (.istore 4, 2) := dk_54 4 (dk_at dksX4_count_0 10 rfl rfl)
theorem dX4_count_12 : decode cX4_count 12 = .ok (.iload 4, 2) := dk_21 4 (dk_at dksX4_count_0 12 rfl rfl)
theorem dX4_count_14 : decode cX4_count 14 = .ok (.aload_n 0, 1) := dk_42 (dk_at dksX4_count_0 14 rfl rfl)
theorem dX4_count_15 : decode cX4_count 15 = .ok (.getfield 198, 3) := dk_180 0 198 (dk_at dksX4_count_0 15 rfl rfl)
theorem dX4_count_18 : decode cX4_count 18 = .ok (.if_icmp .ge 58, 3) := dk_162 0 58 (dk_at dksX4_count_0 18 rfl rfl)
theorem dX4_count_21 : decode cX4_count 21 = .ok (.iload_n 2, 1) := dk_28 (dk_at dksX4_count_0 21 rfl rfl)
theorem dX4_count_22 : decode cX4_count 22 = .ok (.aload_n 0, 1) := dk_42 (dk_at dksX4_count_0 22 rfl rfl)
theorem dX4_count_23 : decode cX4_count 23 = .ok (.getfield 146, 3) := dk_180 0 146 (dk_at dksX4_count_1 0 rfl rfl)
theorem dX4_count_26 : decode cX4_count 26 = .ok (.iload 4, 2) := dk_21 4 (dk_at dksX4_count_1 3 rfl rfl)
theorem dX4_count_28 : decode cX4_count 28 = .ok (.iconst 0, 1) := dk_3 (dk_at dksX4_count_1 5 rfl rfl)
theorem dX4_count_29 : decode cX4_count 29 = .ok (.invokestatic 220, 3) := dk_184 0 220 (dk_at dksX4_count_1 6 rfl rfl)
theorem dX4_count_32 : decode cX4_count 32 = .ok (.aload_n 0, 1) := dk_42 (dk_at dksX4_count_1 9 rfl rfl)
theorem dX4_count_33 : decode cX4_count 33 = .ok (.getfield 146, 3) := dk_180 0 146 (dk_at dksX4_count_1 10 rfl rfl)
theorem dX4_count_36 : decode cX4_count 36 = .ok (.iload 4, 2) := dk_21 4 (dk_at dksX4_count_1 13 rfl rfl)
theorem dX4_count_38 : decode cX4_count 38 = .ok (.iconst 3, 1) := dk_6 (dk_at dksX4_count_1 15 rfl rfl)
theorem dX4_count_39 : decode cX4_count 39 = .ok (.invokestatic 220, 3) := dk_184 0 220 (dk_at dksX4_count_1 16 rfl rfl)
theorem dX4_count_42 : decode cX4_count 42 = .ok (.isub, 1) := dk_100 (dk_at dksX4_count_1 19 rfl rfl)
theorem dX4_count_43 : decode cX4_count 43 = .ok (.iadd, 1) := dk_96 (dk_at dksX4_count_1 20 rfl rfl)
theorem dX4_count_44 : decode cX4_count 44 = .ok (.istore_n 2, 1) := dk_61 (dk_at dksX4_count_1 21 rfl rfl)
theorem dX4_count_45 : decode cX4_count 45 = .ok (.iload_n 3, 1) := dk_29 (dk_at dksX4_count_1 22 rfl rfl)
theorem dX4_count_46 : decode cX4_count 46 = .ok (.aload_n 0, 1) := dk_42 (dk_at dksX4_count_1 23 rfl rfl)
theorem dX4_count_47 : decode cX4_count 47 = .ok (.getfield 146, 3) := dk_180 0 146 (dk_at dksX4_count_2 0 rfl rfl)
theorem dX4_count_50 : decode cX4_count 50 = .ok (.iload 4, 2) := dk_21 4 (dk_at dksX4_count_2 3 rfl rfl)
theorem dX4_count_52 : decode cX4_count 52 = .ok (.iconst 5, 1) := dk_8 (dk_at dksX4_count_2 5 rfl rfl)
theorem dX4_count_53 : decode cX4_count 53 = .ok (.invokestatic 220, 3) := dk_184 0 220 (dk_at dksX4_count_2 6 rfl rfl)
theorem dX4_count_56 : decode cX4_count 56 = .ok (.aload_n 0, 1) := dk_42 (dk_at dksX4_count_2 9 rfl rfl)
theorem dX4_count_57 : decode cX4_count 57 = .ok (.getfield 146, 3) := dk_180 0 146 (dk_at dksX4_count_2 10 rfl rfl)
theorem dX4_count_60 : decode cX4_count 60 = .ok (.iload 4, 2) := dk_21 4 (dk_at dksX4_count_2 13 rfl rfl)
theorem dX4_count_62 : decode cX4_count 62 = .ok (.bipush 6, 2) := dk_16 6 (dk_at dksX4_count_2 15 rfl rfl)
theorem dX4_count_64 : decode cX4_count 64 = .ok (.invokestatic 220, 3) := dk_184 0 220 (dk_at dksX4_count_2 17 rfl rfl)
theorem dX4_count_67 : decode cX4_count 67 = .ok (.isub, 1) := dk_100 (dk_at dksX4_count_2 20 rfl rfl)
theorem dX4_count_68 : decode cX4_count 68 = .ok (.iadd, 1) := dk_96 (dk_at dksX4_count_2 21 rfl rfl)
theorem dX4_count_69 : decode cX4_count 69 = .ok (.istore_n 3, 1) := dk_62 (dk_at dksX4_count_2 22 rfl rfl)
theorem dX4_count_70 : decode cX4_count 70 = .ok (.iinc 4 1, 3) := dk_132 4 1 (dk_at dksX4_count_3 0 rfl rfl)
theorem dX4_count_73 : decode cX4_count 73 = .ok (.goto (-61), 3) := dk_167 255 195 (dk_at dksX4_count_3 3 rfl rfl)
theorem dX4_count_76 : decode cX4_count 76 = .ok (.iload_n 1, 1) := dk_27 (dk_at dksX4_count_3 6 rfl rfl)
theorem dX4_count_77 : decode cX4_count 77 = .ok (.tableswitch 136 0 11 #[63, 68, 70, 79, 88, 90, 99, 108, 116, 121, 126, 131], 63) := by decide +kernel
theorem dX4_count_140 : decode cX4_count 140 = .ok (.aload_n 0, 1) := dk_42 (dk_at dksX4_count_5 0 rfl rfl)
theorem dX4_count_141 : decode cX4_count 141 = .ok (.getfield 198, 3) := dk_180 0 198 (dk_at dksX4_count_5 1 rfl rfl)
theorem dX4_count_144 : decode cX4_count 144 = .ok (.ireturn, 1) := dk_172 (dk_at dksX4_count_5 4 rfl rfl)
theorem dX4_count_145 : decode cX4_count 145 = .ok (.iload_n 2, 1) := dk_28 (dk_at dksX4_count_5 5 rfl rfl)
theorem dX4_count_146 : decode cX4_count 146 = .ok (.ireturn, 1) := dk_172 (dk_at dksX4_count_5 6 rfl rfl)
theorem dX4_count_147 : decode cX4_count 147 = .ok (.aload_n 0, 1) := dk_42 (dk_at dksX4_count_5 7 rfl rfl)
theorem dX4_count_148 : decode cX4_count 148 = .ok (.getfield 146, 3) := dk_180 0 146 (dk_at dksX4_count_5 8 rfl rfl)
theorem dX4_count_151 : decode cX4_count 151 = .ok (.sipush 493, 3) := dk_17 1 237 (dk_at dksX4_count_5 11 rfl rfl)
theorem dX4_count_154 : decode cX4_count 154 = .ok (.iaload, 1) := dk_46 (dk_at dksX4_count_5 14 rfl rfl)
theorem dX4_count_155 : decode cX4_count 155 = .ok (.ireturn, 1) := dk_172 (dk_at dksX4_count_5 15 rfl rfl)
theorem dX4_count_156 : decode cX4_count 156 = .ok (.aload_n 0, 1) := dk_42 (dk_at dksX4_count_5 16 rfl rfl)
theorem dX4_count_157 : decode cX4_count 157 = .ok (.getfield 146, 3) := dk_180 0 146 (dk_at dksX4_count_5 17 rfl rfl)
theorem dX4_count_160 : decode cX4_count 160 = .ok (.sipush 814, 3) := dk_17 3 46 (dk_at dksX4_count_5 20 rfl rfl)
theorem dX4_count_163 : decode cX4_count 163 = .ok (.iaload, 1) := dk_46 (dk_at dksX4_count_5 23 rfl rfl)
theorem dX4_count_164 : decode cX4_count 164 = .ok (.ireturn, 1) := dk_172 (dk_at dksX4_count_6 0 rfl rfl)
theorem dX4_count_165 : decode cX4_count 165 = .ok (.iload_n 3, 1) := dk_29 (dk_at dksX4_count_6 1 rfl rfl)
theorem dX4_count_166 : decode cX4_count 166 = .ok (.ireturn, 1) := dk_172 (dk_at dksX4_count_6 2 rfl rfl)
theorem dX4_count_167 : decode cX4_count 167 = .ok (.aload_n 0, 1) := dk_42 (dk_at dksX4_count_6 3 rfl rfl)
theorem dX4_count_168 : decode cX4_count 168 = .ok (.getfield 146, 3) := dk_180 0 146 (dk_at dksX4_count_6 4 rfl rfl)
theorem dX4_count_171 : decode cX4_count 171 = .ok (.sipush 827, 3) := dk_17 3 59 (dk_at dksX4_count_6 7 rfl rfl)
theorem dX4_count_174 : decode cX4_count 174 = .ok (.iaload, 1) := dk_46 (dk_at dksX4_count_6 10 rfl rfl)
theorem dX4_count_175 : decode cX4_count 175 = .ok (.ireturn, 1) := dk_172 (dk_at dksX4_count_6 11 rfl rfl)
theorem dX4_count_176 : decode cX4_count 176 = .ok (.aload_n 0, 1) := dk_42 (dk_at dksX4_count_6 12 rfl rfl)
theorem dX4_count_177 : decode cX4_count 177 = .ok (.getfield 146, 3) := dk_180 0 146 (dk_at dksX4_count_6 13 rfl rfl)
theorem dX4_count_180 : decode cX4_count 180 = .ok (.sipush 826, 3) := dk_17 3 58 (dk_at dksX4_count_6 16 rfl rfl)
theorem dX4_count_183 : decode cX4_count 183 = .ok (.iaload, 1) := dk_46 (dk_at dksX4_count_6 19 rfl rfl)
theorem dX4_count_184 : decode cX4_count 184 = .ok (.ireturn, 1) := dk_172 (dk_at dksX4_count_6 20 rfl rfl)
theorem dX4_count_185 : decode cX4_count 185 = .ok (.aload_n 0, 1) := dk_42 (dk_at dksX4_count_6 21 rfl rfl)
theorem dX4_count_186 : decode cX4_count 186 = .ok (.getfield 146, 3) := dk_180 0 146 (dk_at dksX4_count_7 0 rfl rfl)
theorem dX4_count_189 : decode cX4_count 189 = .ok (.invokestatic 229, 3) := dk_184 0 229 (dk_at dksX4_count_7 3 rfl rfl)
theorem dX4_count_192 : decode cX4_count 192 = .ok (.ireturn, 1) := dk_172 (dk_at dksX4_count_7 6 rfl rfl)
theorem dX4_count_193 : decode cX4_count 193 = .ok (.aload_n 0, 1) := dk_42 (dk_at dksX4_count_7 7 rfl rfl)
theorem dX4_count_194 : decode cX4_count 194 = .ok (.getfield 427, 3) := dk_180 1 171 (dk_at dksX4_count_7 8 rfl rfl)
theorem dX4_count_197 : decode cX4_count 197 = .ok (.ireturn, 1) := dk_172 (dk_at dksX4_count_7 11 rfl rfl)
theorem dX4_count_198 : decode cX4_count 198 = .ok (.aload_n 0, 1) := dk_42 (dk_at dksX4_count_7 12 rfl rfl)
theorem dX4_count_199 : decode cX4_count 199 = .ok (.getfield 206, 3) := dk_180 0 206 (dk_at dksX4_count_7 13 rfl rfl)
theorem dX4_count_202 : decode cX4_count 202 = .ok (.ireturn, 1) := dk_172 (dk_at dksX4_count_7 16 rfl rfl)
theorem dX4_count_203 : decode cX4_count 203 = .ok (.aload_n 0, 1) := dk_42 (dk_at dksX4_count_7 17 rfl rfl)
theorem dX4_count_204 : decode cX4_count 204 = .ok (.getfield 11, 3) := dk_180 0 11 (dk_at dksX4_count_7 18 rfl rfl)
theorem dX4_count_207 : decode cX4_count 207 = .ok (.ireturn, 1) := dk_172 (dk_at dksX4_count_7 21 rfl rfl)
theorem dX4_count_208 : decode cX4_count 208 = .ok (.aload_n 0, 1) := dk_42 (dk_at dksX4_count_7 22 rfl rfl)
theorem dX4_count_209 : decode cX4_count 209 = .ok (.getfield 14, 3) := dk_180 0 14 (dk_at dksX4_count_8 0 rfl rfl)
theorem dX4_count_212 : decode cX4_count 212 = .ok (.ireturn, 1) := dk_172 (dk_at dksX4_count_8 3 rfl rfl)
theorem dX4_count_213 : decode cX4_count 213 = .ok (.bipush (-100), 2) := dk_16 156 (dk_at dksX4_count_8 4 rfl rfl)
theorem dX4_count_215 : decode cX4_count 215 = .ok (.ireturn, 1) := dk_172 (dk_at dksX4_count_8 6 rfl rfl)
abbrev cX4_row : ByteArray := prog_13_method_122_code
def yX4_row : MethodName := ⟨RX4, "row", "(I)J"⟩
def dkwX4_row_1 : List UInt8 := [181, 0, 3, 9, 173, 42, 180, 0, 7, 27, 47, 173]
abbrev dktX4_row_1 : List UInt8 := dkwX4_row_1 ++ []
def dkwX4_row_0 : List UInt8 := [42, 3, 181, 0, 3, 27, 133, 9, 42, 180, 0, 11, 4, 100, 133, 184, 0, 21, 154, 0, 10, 42, 4]
abbrev dktX4_row_0 : List UInt8 := dkwX4_row_0 ++ dktX4_row_1
theorem dksX4_row_0 : cX4_row.data.toList.drop 0 = dktX4_row_0 := by decide +kernel
theorem dksX4_row_1 : cX4_row.data.toList.drop 23 = dktX4_row_1 := dk_seg dksX4_row_0 23 rfl rfl
theorem dX4_row_0 : decode cX4_row 0 = .ok (.aload_n 0, 1) := dk_42 (dk_at dksX4_row_0 0 rfl rfl)
theorem dX4_row_1 : decode cX4_row 1 = .ok (.iconst 0, 1) := dk_3 (dk_at dksX4_row_0 1 rfl rfl)
theorem dX4_row_2 : decode cX4_row 2 = .ok (.putfield 3, 3) := dk_181 0 3 (dk_at dksX4_row_0 2 rfl rfl)
theorem dX4_row_5 : decode cX4_row 5 = .ok (.iload_n 1, 1) := dk_27 (dk_at dksX4_row_0 5 rfl rfl)
theorem dX4_row_6 : decode cX4_row 6 = .ok (.i2l, 1) := dk_133 (dk_at dksX4_row_0 6 rfl rfl)
theorem dX4_row_7 : decode cX4_row 7 = .ok (.lconst 0, 1) := dk_9 (dk_at dksX4_row_0 7 rfl rfl)
theorem dX4_row_8 : decode cX4_row 8 = .ok (.aload_n 0, 1) := dk_42 (dk_at dksX4_row_0 8 rfl rfl)
theorem dX4_row_9 : decode cX4_row 9 = .ok (.getfield 11, 3) := dk_180 0 11 (dk_at dksX4_row_0 9 rfl rfl)
theorem dX4_row_12 : decode cX4_row 12 = .ok (.iconst 1, 1) := dk_4 (dk_at dksX4_row_0 12 rfl rfl)
theorem dX4_row_13 : decode cX4_row 13 = .ok (.isub, 1) := dk_100 (dk_at dksX4_row_0 13 rfl rfl)
theorem dX4_row_14 : decode cX4_row 14 = .ok (.i2l, 1) := dk_133 (dk_at dksX4_row_0 14 rfl rfl)
theorem dX4_row_15 : decode cX4_row 15 = .ok (.invokestatic 21, 3) := dk_184 0 21 (dk_at dksX4_row_0 15 rfl rfl)
theorem dX4_row_18 : decode cX4_row 18 = .ok (.ifCond .ne 10, 3) := dk_154 0 10 (dk_at dksX4_row_0 18 rfl rfl)
theorem dX4_row_21 : decode cX4_row 21 = .ok (.aload_n 0, 1) := dk_42 (dk_at dksX4_row_0 21 rfl rfl)
theorem dX4_row_22 : decode cX4_row 22 = .ok (.iconst 1, 1) := dk_4 (dk_at dksX4_row_0 22 rfl rfl)
theorem dX4_row_23 : decode cX4_row 23 = .ok (.putfield 3, 3) := dk_181 0 3 (dk_at dksX4_row_1 0 rfl rfl)
theorem dX4_row_26 : decode cX4_row 26 = .ok (.lconst 0, 1) := dk_9 (dk_at dksX4_row_1 3 rfl rfl)
theorem dX4_row_27 : decode cX4_row 27 = .ok (.lreturn, 1) := dk_173 (dk_at dksX4_row_1 4 rfl rfl)
theorem dX4_row_28 : decode cX4_row 28 = .ok (.aload_n 0, 1) := dk_42 (dk_at dksX4_row_1 5 rfl rfl)
theorem dX4_row_29 : decode cX4_row 29 = .ok (.getfield 7, 3) := dk_180 0 7 (dk_at dksX4_row_1 6 rfl rfl)
theorem dX4_row_32 : decode cX4_row 32 = .ok (.iload_n 1, 1) := dk_27 (dk_at dksX4_row_1 9 rfl rfl)
theorem dX4_row_33 : decode cX4_row 33 = .ok (.laload, 1) := dk_47 (dk_at dksX4_row_1 10 rfl rfl)
theorem dX4_row_34 : decode cX4_row 34 = .ok (.lreturn, 1) := dk_173 (dk_at dksX4_row_1 11 rfl rfl)
theorem q117 : (Jvm.Cond.initialized "QueueDriveModel") ∈ lw_all := lw_g (lw_at lw_m1 26 rfl) rfl
theorem q1216 : (Jvm.Cond.selects "QueueDriveModel" ({ cls := "java/lang/Object", name := "getClass", desc := "()Ljava/lang/Class;" } : Jvm.MethodName) ({ cls := "java/lang/Object", name := "getClass", desc := "()Ljava/lang/Class;" } : Jvm.MethodName)) ∈ lw_all := lw_g (lw_at lw_m5 165 rfl) rfl
theorem q2122 : (Jvm.Cond.instanceMethod ({ cls := "QueueDriveModel", name := "thrown", desc := "()I" } : Jvm.MethodName)) ∈ lw_all := lw_g (lw_at lw_m9 111 rfl) rfl
theorem q2123 : (Jvm.Cond.selects "QueueDriveModel" ({ cls := "QueueDriveModel", name := "thrown", desc := "()I" } : Jvm.MethodName) ({ cls := "QueueDriveModel", name := "thrown", desc := "()I" } : Jvm.MethodName)) ∈ lw_all := lw_g (lw_at lw_m9 112 rfl) rfl
theorem q2124 : (Jvm.Cond.code ({ cls := "QueueDriveModel", name := "thrown", desc := "()I" } : Jvm.MethodName) prog_13_method_1_code (1 : Nat) (Option.some Jvm.ClassFile.FieldType.int)) ∈ lw_all := lw_g (lw_at lw_m9 113 rfl) rfl
theorem q2126 : (Jvm.Cond.instanceMethod ({ cls := "QueueDriveModel", name := "sign", desc := "(I)I" } : Jvm.MethodName)) ∈ lw_all := lw_g (lw_at lw_m9 115 rfl) rfl
theorem q2127 : (Jvm.Cond.selects "QueueDriveModel" ({ cls := "QueueDriveModel", name := "sign", desc := "(I)I" } : Jvm.MethodName) ({ cls := "QueueDriveModel", name := "sign", desc := "(I)I" } : Jvm.MethodName)) ∈ lw_all := lw_g (lw_at lw_m9 116 rfl) rfl
theorem q2128 : (Jvm.Cond.code ({ cls := "QueueDriveModel", name := "sign", desc := "(I)I" } : Jvm.MethodName) prog_13_method_6_code (3 : Nat) (Option.some Jvm.ClassFile.FieldType.int)) ∈ lw_all := lw_g (lw_at lw_m9 117 rfl) rfl
theorem q2130 : (Jvm.Cond.instanceMethod ({ cls := "QueueDriveModel", name := "end", desc := "(I)Z" } : Jvm.MethodName)) ∈ lw_all := lw_g (lw_at lw_m9 119 rfl) rfl
theorem q2131 : (Jvm.Cond.selects "QueueDriveModel" ({ cls := "QueueDriveModel", name := "end", desc := "(I)Z" } : Jvm.MethodName) ({ cls := "QueueDriveModel", name := "end", desc := "(I)Z" } : Jvm.MethodName)) ∈ lw_all := lw_g (lw_at lw_m9 120 rfl) rfl
theorem q2132 : (Jvm.Cond.code ({ cls := "QueueDriveModel", name := "end", desc := "(I)Z" } : Jvm.MethodName) prog_13_method_7_code (2 : Nat) (Option.some Jvm.ClassFile.FieldType.boolean)) ∈ lw_all := lw_g (lw_at lw_m9 121 rfl) rfl
theorem q2133 : (Jvm.Cond.methodLink "QueueDriveModel" (21 : Nat) ({ cls := "QueueDriveModel", name := "in", desc := "(JJJ)Z" } : Jvm.MethodName)) ∈ lw_all := lw_g (lw_at lw_m9 122 rfl) rfl
theorem q2134 : (Jvm.Cond.static ({ cls := "QueueDriveModel", name := "in", desc := "(JJJ)Z" } : Jvm.MethodName)) ∈ lw_all := lw_g (lw_at lw_m9 123 rfl) rfl
theorem q2135 : (Jvm.Cond.code ({ cls := "QueueDriveModel", name := "in", desc := "(JJJ)Z" } : Jvm.MethodName) prog_13_method_3_code (6 : Nat) (Option.some Jvm.ClassFile.FieldType.boolean)) ∈ lw_all := lw_g (lw_at lw_m9 124 rfl) rfl
theorem q2137 : (Jvm.Cond.instanceMethod ({ cls := "QueueDriveModel", name := "rule", desc := "()I" } : Jvm.MethodName)) ∈ lw_all := lw_g (lw_at lw_m9 126 rfl) rfl
theorem q2138 : (Jvm.Cond.selects "QueueDriveModel" ({ cls := "QueueDriveModel", name := "rule", desc := "()I" } : Jvm.MethodName) ({ cls := "QueueDriveModel", name := "rule", desc := "()I" } : Jvm.MethodName)) ∈ lw_all := lw_g (lw_at lw_m9 127 rfl) rfl
theorem q2139 : (Jvm.Cond.code ({ cls := "QueueDriveModel", name := "rule", desc := "()I" } : Jvm.MethodName) prog_13_method_21_code (2 : Nat) (Option.some Jvm.ClassFile.FieldType.int)) ∈ lw_all := lw_g (lw_at lw_m9 128 rfl) rfl
theorem q2140 : (Jvm.Cond.methodLink "QueueDriveModel" (111 : Nat) ({ cls := "QueueDriveModel", name := "readsRule", desc := "()I" } : Jvm.MethodName)) ∈ lw_all := lw_g (lw_at lw_m9 129 rfl) rfl
theorem q2141 : (Jvm.Cond.privateMethod ({ cls := "QueueDriveModel", name := "readsRule", desc := "()I" } : Jvm.MethodName)) ∈ lw_tbl := lw_at lw_m9 130 rfl
theorem q2142 : (Jvm.Cond.instanceMethod ({ cls := "QueueDriveModel", name := "readsRule", desc := "()I" } : Jvm.MethodName)) ∈ lw_all := lw_g (lw_at lw_m9 131 rfl) rfl
theorem q2143 : (Jvm.Cond.instantiable "QueueDriveModel" (45 : Nat)) ∈ lw_all := lw_g (lw_at lw_m9 132 rfl) rfl
theorem q2144 : (Jvm.Cond.code ({ cls := "QueueDriveModel", name := "readsRule", desc := "()I" } : Jvm.MethodName) prog_13_method_19_code (3 : Nat) (Option.some Jvm.ClassFile.FieldType.int)) ∈ lw_all := lw_g (lw_at lw_m9 133 rfl) rfl
theorem q2145 : (Jvm.Cond.methodLink "QueueDriveModel" (98 : Nat) ({ cls := "QueueDriveModel", name := "begins", desc := "(I)I" } : Jvm.MethodName)) ∈ lw_all := lw_g (lw_at lw_m9 134 rfl) rfl
theorem q2146 : (Jvm.Cond.privateMethod ({ cls := "QueueDriveModel", name := "begins", desc := "(I)I" } : Jvm.MethodName)) ∈ lw_tbl := lw_at lw_m9 135 rfl
theorem q2147 : (Jvm.Cond.instanceMethod ({ cls := "QueueDriveModel", name := "begins", desc := "(I)I" } : Jvm.MethodName)) ∈ lw_all := lw_g (lw_at lw_m9 136 rfl) rfl
theorem q2148 : (Jvm.Cond.code ({ cls := "QueueDriveModel", name := "begins", desc := "(I)I" } : Jvm.MethodName) prog_13_method_8_code (3 : Nat) (Option.some Jvm.ClassFile.FieldType.int)) ∈ lw_all := lw_g (lw_at lw_m9 137 rfl) rfl
theorem q2149 : (Jvm.Cond.methodLink "QueueDriveModel" (31 : Nat) ({ cls := "java/lang/Math", name := "min", desc := "(II)I" } : Jvm.MethodName)) ∈ lw_all := lw_g (lw_at lw_m9 138 rfl) rfl
theorem q2150 : (Jvm.Cond.methodLink "QueueDriveModel" (89 : Nat) ({ cls := "QueueDriveModel", name := "readsRank", desc := "(I)Z" } : Jvm.MethodName)) ∈ lw_all := lw_g (lw_at lw_m9 139 rfl) rfl
theorem q2151 : (Jvm.Cond.privateMethod ({ cls := "QueueDriveModel", name := "readsRank", desc := "(I)Z" } : Jvm.MethodName)) ∈ lw_tbl := lw_at lw_m9 140 rfl
theorem q2152 : (Jvm.Cond.instanceMethod ({ cls := "QueueDriveModel", name := "readsRank", desc := "(I)Z" } : Jvm.MethodName)) ∈ lw_all := lw_g (lw_at lw_m9 141 rfl) rfl
theorem q2153 : (Jvm.Cond.code ({ cls := "QueueDriveModel", name := "readsRank", desc := "(I)Z" } : Jvm.MethodName) prog_13_method_18_code (4 : Nat) (Option.some Jvm.ClassFile.FieldType.boolean)) ∈ lw_all := lw_g (lw_at lw_m9 142 rfl) rfl
theorem q2154 : (Jvm.Cond.methodLink "QueueDriveModel" (76 : Nat) ({ cls := "QueueDriveModel", name := "readsThing", desc := "()Z" } : Jvm.MethodName)) ∈ lw_all := lw_g (lw_at lw_m9 143 rfl) rfl
theorem q2155 : (Jvm.Cond.privateMethod ({ cls := "QueueDriveModel", name := "readsThing", desc := "()Z" } : Jvm.MethodName)) ∈ lw_tbl := lw_at lw_m9 144 rfl
theorem q2156 : (Jvm.Cond.instanceMethod ({ cls := "QueueDriveModel", name := "readsThing", desc := "()Z" } : Jvm.MethodName)) ∈ lw_all := lw_g (lw_at lw_m9 145 rfl) rfl
theorem q2157 : (Jvm.Cond.code ({ cls := "QueueDriveModel", name := "readsThing", desc := "()Z" } : Jvm.MethodName) prog_13_method_17_code (2 : Nat) (Option.some Jvm.ClassFile.FieldType.boolean)) ∈ lw_all := lw_g (lw_at lw_m9 146 rfl) rfl
theorem q2158 : (Jvm.Cond.methodLink "QueueDriveModel" (72 : Nat) ({ cls := "QueueDriveModel", name := "takesSign", desc := "(I)Z" } : Jvm.MethodName)) ∈ lw_all := lw_g (lw_at lw_m9 147 rfl) rfl
theorem q2159 : (Jvm.Cond.privateMethod ({ cls := "QueueDriveModel", name := "takesSign", desc := "(I)Z" } : Jvm.MethodName)) ∈ lw_tbl := lw_at lw_m9 148 rfl
theorem q2160 : (Jvm.Cond.instanceMethod ({ cls := "QueueDriveModel", name := "takesSign", desc := "(I)Z" } : Jvm.MethodName)) ∈ lw_all := lw_g (lw_at lw_m9 149 rfl) rfl
theorem q2161 : (Jvm.Cond.code ({ cls := "QueueDriveModel", name := "takesSign", desc := "(I)Z" } : Jvm.MethodName) prog_13_method_9_code (3 : Nat) (Option.some Jvm.ClassFile.FieldType.boolean)) ∈ lw_all := lw_g (lw_at lw_m9 150 rfl) rfl
theorem q2162 : (Jvm.Cond.methodLink "QueueDriveModel" (40 : Nat) ({ cls := "QueueDriveModel", name := "flag", desc := "(Z)I" } : Jvm.MethodName)) ∈ lw_all := lw_g (lw_at lw_m9 151 rfl) rfl
theorem q2163 : (Jvm.Cond.static ({ cls := "QueueDriveModel", name := "flag", desc := "(Z)I" } : Jvm.MethodName)) ∈ lw_all := lw_g (lw_at lw_m9 152 rfl) rfl
theorem q2164 : (Jvm.Cond.code ({ cls := "QueueDriveModel", name := "flag", desc := "(Z)I" } : Jvm.MethodName) prog_13_method_4_code (1 : Nat) (Option.some Jvm.ClassFile.FieldType.int)) ∈ lw_all := lw_g (lw_at lw_m9 153 rfl) rfl
theorem q2165 : (Jvm.Cond.methodLink "QueueDriveModel" (79 : Nat) ({ cls := "QueueDriveModel", name := "codes", desc := "(I)V" } : Jvm.MethodName)) ∈ lw_all := lw_g (lw_at lw_m9 154 rfl) rfl
theorem q2166 : (Jvm.Cond.privateMethod ({ cls := "QueueDriveModel", name := "codes", desc := "(I)V" } : Jvm.MethodName)) ∈ lw_tbl := lw_at lw_m9 155 rfl
theorem q2167 : (Jvm.Cond.instanceMethod ({ cls := "QueueDriveModel", name := "codes", desc := "(I)V" } : Jvm.MethodName)) ∈ lw_all := lw_g (lw_at lw_m9 156 rfl) rfl
theorem q2168 : (Jvm.Cond.code ({ cls := "QueueDriveModel", name := "codes", desc := "(I)V" } : Jvm.MethodName) prog_13_method_16_code (2 : Nat) (Option.none : Option Jvm.ClassFile.FieldType)) ∈ lw_all := lw_g (lw_at lw_m9 157 rfl) rfl
theorem q2169 : (Jvm.Cond.methodLink "QueueDriveModel" (58 : Nat) ({ cls := "QueueDriveModel", name := "isDigit", desc := "()Z" } : Jvm.MethodName)) ∈ lw_all := lw_g (lw_at lw_m9 158 rfl) rfl
theorem q2170 : (Jvm.Cond.privateMethod ({ cls := "QueueDriveModel", name := "isDigit", desc := "()Z" } : Jvm.MethodName)) ∈ lw_tbl := lw_at lw_m9 159 rfl
theorem q2171 : (Jvm.Cond.instanceMethod ({ cls := "QueueDriveModel", name := "isDigit", desc := "()Z" } : Jvm.MethodName)) ∈ lw_all := lw_g (lw_at lw_m9 160 rfl) rfl
theorem q2172 : (Jvm.Cond.code ({ cls := "QueueDriveModel", name := "isDigit", desc := "()Z" } : Jvm.MethodName) prog_13_method_10_code (1 : Nat) (Option.some Jvm.ClassFile.FieldType.boolean)) ∈ lw_all := lw_g (lw_at lw_m9 161 rfl) rfl
theorem q2173 : (Jvm.Cond.constantLong "QueueDriveModel" (44 : Nat) (48 : Int64)) ∈ lw_all := lw_g (lw_at lw_m9 162 rfl) rfl
theorem q2174 : (Jvm.Cond.constantLong "QueueDriveModel" (46 : Nat) (57 : Int64)) ∈ lw_all := lw_g (lw_at lw_m9 163 rfl) rfl
theorem q2175 : (Jvm.Cond.methodLink "QueueDriveModel" (62 : Nat) ({ cls := "QueueDriveModel", name := "number", desc := "(I)I" } : Jvm.MethodName)) ∈ lw_all := lw_g (lw_at lw_m9 164 rfl) rfl
theorem q2176 : (Jvm.Cond.privateMethod ({ cls := "QueueDriveModel", name := "number", desc := "(I)I" } : Jvm.MethodName)) ∈ lw_tbl := lw_at lw_m9 165 rfl
theorem q2177 : (Jvm.Cond.instanceMethod ({ cls := "QueueDriveModel", name := "number", desc := "(I)I" } : Jvm.MethodName)) ∈ lw_all := lw_g (lw_at lw_m9 166 rfl) rfl
theorem q2178 : (Jvm.Cond.code ({ cls := "QueueDriveModel", name := "number", desc := "(I)I" } : Jvm.MethodName) prog_13_method_12_code (4 : Nat) (Option.some Jvm.ClassFile.FieldType.int)) ∈ lw_all := lw_g (lw_at lw_m9 167 rfl) rfl
theorem q2179 : (Jvm.Cond.stringRef "QueueDriveModel" (83 : Nat) "obvqcdn") ∈ lw_tbl := lw_at lw_m9 168 rfl
theorem q2180 : (Jvm.Cond.methodLink "QueueDriveModel" (85 : Nat) ({ cls := "QueueDriveModel", name := "takesOf", desc := "(Ljava/lang/String;)I" } : Jvm.MethodName)) ∈ lw_all := lw_g (lw_at lw_m9 169 rfl) rfl
theorem q2181 : (Jvm.Cond.privateMethod ({ cls := "QueueDriveModel", name := "takesOf", desc := "(Ljava/lang/String;)I" } : Jvm.MethodName)) ∈ lw_tbl := lw_at lw_m9 170 rfl
theorem q2182 : (Jvm.Cond.instanceMethod ({ cls := "QueueDriveModel", name := "takesOf", desc := "(Ljava/lang/String;)I" } : Jvm.MethodName)) ∈ lw_all := lw_g (lw_at lw_m9 171 rfl) rfl
theorem q2183 : (Jvm.Cond.code ({ cls := "QueueDriveModel", name := "takesOf", desc := "(Ljava/lang/String;)I" } : Jvm.MethodName) prog_13_method_11_code (3 : Nat) (Option.some Jvm.ClassFile.FieldType.int)) ∈ lw_all := lw_g (lw_at lw_m9 172 rfl) rfl
theorem q2184 : (Jvm.Cond.methodLink "QueueDriveModel" (48 : Nat) ({ cls := "java/lang/String", name := "length", desc := "()I" } : Jvm.MethodName)) ∈ lw_all := lw_g (lw_at lw_m9 173 rfl) rfl
theorem q2185 : (Jvm.Cond.methodLink "QueueDriveModel" (54 : Nat) ({ cls := "java/lang/String", name := "charAt", desc := "(I)C" } : Jvm.MethodName)) ∈ lw_all := lw_g (lw_at lw_m9 174 rfl) rfl
theorem q2205 : (Jvm.Cond.stringRef "QueueDriveModel" (92 : Nat) "<>=") ∈ lw_tbl := lw_at lw_m9 194 rfl
theorem q2206 : (Jvm.Cond.stringRef "QueueDriveModel" (94 : Nat) "+-") ∈ lw_tbl := lw_at lw_m9 195 rfl
theorem q2207 : (Jvm.Cond.stringRef "QueueDriveModel" (96 : Nat) "*/") ∈ lw_tbl := lw_at lw_m9 196 rfl
theorem q2208 : (Jvm.Cond.methodLink "QueueDriveModel" (101 : Nat) ({ cls := "QueueDriveModel", name := "faultOf", desc := "(IIZ)I" } : Jvm.MethodName)) ∈ lw_all := lw_g (lw_at lw_m9 197 rfl) rfl
theorem q2209 : (Jvm.Cond.privateMethod ({ cls := "QueueDriveModel", name := "faultOf", desc := "(IIZ)I" } : Jvm.MethodName)) ∈ lw_tbl := lw_at lw_m9 198 rfl
theorem q2210 : (Jvm.Cond.instanceMethod ({ cls := "QueueDriveModel", name := "faultOf", desc := "(IIZ)I" } : Jvm.MethodName)) ∈ lw_all := lw_g (lw_at lw_m9 199 rfl) rfl
theorem q2211 : (Jvm.Cond.code ({ cls := "QueueDriveModel", name := "faultOf", desc := "(IIZ)I" } : Jvm.MethodName) prog_13_method_15_code (5 : Nat) (Option.some Jvm.ClassFile.FieldType.int)) ∈ lw_all := lw_g (lw_at lw_m9 200 rfl) rfl
theorem q2212 : (Jvm.Cond.methodLink "QueueDriveModel" (114 : Nat) ({ cls := "QueueDriveModel", name := "laysCode", desc := "([II)V" } : Jvm.MethodName)) ∈ lw_all := lw_g (lw_at lw_m9 201 rfl) rfl
theorem q2213 : (Jvm.Cond.privateMethod ({ cls := "QueueDriveModel", name := "laysCode", desc := "([II)V" } : Jvm.MethodName)) ∈ lw_tbl := lw_at lw_m9 202 rfl
theorem q2214 : (Jvm.Cond.instanceMethod ({ cls := "QueueDriveModel", name := "laysCode", desc := "([II)V" } : Jvm.MethodName)) ∈ lw_all := lw_g (lw_at lw_m9 203 rfl) rfl
theorem q2215 : (Jvm.Cond.code ({ cls := "QueueDriveModel", name := "laysCode", desc := "([II)V" } : Jvm.MethodName) prog_13_method_20_code (4 : Nat) (Option.none : Option Jvm.ClassFile.FieldType)) ∈ lw_all := lw_g (lw_at lw_m9 204 rfl) rfl
theorem q2218 : (Jvm.Cond.instanceMethod ({ cls := "QueueDriveModel", name := "<init>", desc := "()V" } : Jvm.MethodName)) ∈ lw_all := lw_g (lw_at lw_m9 207 rfl) rfl
theorem q2219 : (Jvm.Cond.code ({ cls := "QueueDriveModel", name := "<init>", desc := "()V" } : Jvm.MethodName) prog_13_method_24_code (2 : Nat) (Option.none : Option Jvm.ClassFile.FieldType)) ∈ lw_all := lw_g (lw_at lw_m9 208 rfl) rfl
theorem q2220 : (Jvm.Cond.methodLink "QueueDriveModel" (128 : Nat) ({ cls := "java/lang/Object", name := "<init>", desc := "()V" } : Jvm.MethodName)) ∈ lw_all := lw_g (lw_at lw_m9 209 rfl) rfl
theorem q2221 : (Jvm.Cond.fieldLink "QueueDriveModel" (3 : Nat) "QueueDriveModel" "thrown" "I") ∈ lw_all := lw_g (lw_at lw_m9 210 rfl) rfl
theorem q2222 : (Jvm.Cond.fieldLink "QueueDriveModel" (11 : Nat) "QueueDriveModel" "told" "I") ∈ lw_all := lw_g (lw_at lw_m9 211 rfl) rfl
theorem q2223 : (Jvm.Cond.fieldLink "QueueDriveModel" (7 : Nat) "QueueDriveModel" "row" "[J") ∈ lw_all := lw_g (lw_at lw_m9 212 rfl) rfl
theorem q2224 : (Jvm.Cond.fieldLink "QueueDriveModel" (17 : Nat) "QueueDriveModel" "tape" "[I") ∈ lw_all := lw_g (lw_at lw_m9 213 rfl) rfl
theorem q2225 : (Jvm.Cond.fieldLink "QueueDriveModel" (14 : Nat) "QueueDriveModel" "taped" "I") ∈ lw_all := lw_g (lw_at lw_m9 214 rfl) rfl
theorem q2226 : (Jvm.Cond.fieldLink "QueueDriveModel" (25 : Nat) "QueueDriveModel" "at" "I") ∈ lw_all := lw_g (lw_at lw_m9 215 rfl) rfl
theorem q2227 : (Jvm.Cond.fieldLink "QueueDriveModel" (37 : Nat) "QueueDriveModel" "to" "I") ∈ lw_all := lw_g (lw_at lw_m9 216 rfl) rfl
theorem q2228 : (Jvm.Cond.fieldLink "QueueDriveModel" (28 : Nat) "QueueDriveModel" "nest" "I") ∈ lw_all := lw_g (lw_at lw_m9 217 rfl) rfl
theorem q2229 : (Jvm.Cond.fieldLink "QueueDriveModel" (108 : Nat) "QueueDriveModel" "code" "[I") ∈ lw_all := lw_g (lw_at lw_m9 218 rfl) rfl
theorem q2230 : (Jvm.Cond.fieldLink "QueueDriveModel" (66 : Nat) "QueueDriveModel" "readCode" "[I") ∈ lw_all := lw_g (lw_at lw_m9 219 rfl) rfl
theorem q2231 : (Jvm.Cond.fieldLink "QueueDriveModel" (105 : Nat) "QueueDriveModel" "codeLong" "I") ∈ lw_all := lw_g (lw_at lw_m9 220 rfl) rfl
theorem q2232 : (Jvm.Cond.fieldLink "QueueDriveModel" (69 : Nat) "QueueDriveModel" "codesRead" "I") ∈ lw_all := lw_g (lw_at lw_m9 221 rfl) rfl
theorem q2233 : (Jvm.Cond.fieldLink "QueueDriveModel" (118 : Nat) "QueueDriveModel" "stack" "[I") ∈ lw_all := lw_g (lw_at lw_m9 222 rfl) rfl
theorem q2234 : (Jvm.Cond.fieldLink "QueueDriveModel" (125 : Nat) "QueueDriveModel" "asked" "[I") ∈ lw_all := lw_g (lw_at lw_m9 223 rfl) rfl
theorem q2235 : (Jvm.Cond.fieldLink "QueueDriveModel" (198 : Nat) "QueueDriveModel" "queues" "I") ∈ lw_all := lw_g (lw_at lw_m9 224 rfl) rfl
theorem q2236 : (Jvm.Cond.fieldLink "QueueDriveModel" (209 : Nat) "QueueDriveModel" "changes" "I") ∈ lw_all := lw_g (lw_at lw_m9 225 rfl) rfl
theorem q2237 : (Jvm.Cond.fieldLink "QueueDriveModel" (134 : Nat) "QueueDriveModel" "slots" "[I") ∈ lw_all := lw_g (lw_at lw_m9 226 rfl) rfl
theorem q2238 : (Jvm.Cond.fieldLink "QueueDriveModel" (137 : Nat) "QueueDriveModel" "places" "[I") ∈ lw_all := lw_g (lw_at lw_m9 227 rfl) rfl
theorem q2239 : (Jvm.Cond.fieldLink "QueueDriveModel" (140 : Nat) "QueueDriveModel" "kind" "[I") ∈ lw_all := lw_g (lw_at lw_m9 228 rfl) rfl
theorem q2240 : (Jvm.Cond.fieldLink "QueueDriveModel" (143 : Nat) "QueueDriveModel" "shadowed" "[I") ∈ lw_all := lw_g (lw_at lw_m9 229 rfl) rfl
theorem q2241 : (Jvm.Cond.fieldLink "QueueDriveModel" (146 : Nat) "QueueDriveModel" "now" "[I") ∈ lw_all := lw_g (lw_at lw_m9 230 rfl) rfl
theorem q2242 : (Jvm.Cond.fieldLink "QueueDriveModel" (149 : Nat) "QueueDriveModel" "then" "[I") ∈ lw_all := lw_g (lw_at lw_m9 231 rfl) rfl
theorem q2243 : (Jvm.Cond.fieldLink "QueueDriveModel" (206 : Nat) "QueueDriveModel" "undos" "I") ∈ lw_all := lw_g (lw_at lw_m9 232 rfl) rfl
theorem q2244 : (Jvm.Cond.fieldLink "QueueDriveModel" (152 : Nat) "QueueDriveModel" "undone" "[I") ∈ lw_all := lw_g (lw_at lw_m9 233 rfl) rfl
theorem q2245 : (Jvm.Cond.fieldLink "QueueDriveModel" (322 : Nat) "QueueDriveModel" "postedMany" "I") ∈ lw_all := lw_g (lw_at lw_m9 234 rfl) rfl
theorem q2246 : (Jvm.Cond.fieldLink "QueueDriveModel" (342 : Nat) "QueueDriveModel" "fetchedMany" "I") ∈ lw_all := lw_g (lw_at lw_m9 235 rfl) rfl
theorem q2247 : (Jvm.Cond.fieldLink "QueueDriveModel" (349 : Nat) "QueueDriveModel" "idleMany" "I") ∈ lw_all := lw_g (lw_at lw_m9 236 rfl) rfl
theorem q2248 : (Jvm.Cond.fieldLink "QueueDriveModel" (155 : Nat) "QueueDriveModel" "actSign" "[I") ∈ lw_all := lw_g (lw_at lw_m9 237 rfl) rfl
theorem q2249 : (Jvm.Cond.fieldLink "QueueDriveModel" (158 : Nat) "QueueDriveModel" "actOne" "[I") ∈ lw_all := lw_g (lw_at lw_m9 238 rfl) rfl
theorem q2250 : (Jvm.Cond.fieldLink "QueueDriveModel" (161 : Nat) "QueueDriveModel" "actTwo" "[I") ∈ lw_all := lw_g (lw_at lw_m9 239 rfl) rfl
theorem q2251 : (Jvm.Cond.fieldLink "QueueDriveModel" (164 : Nat) "QueueDriveModel" "actThree" "[I") ∈ lw_all := lw_g (lw_at lw_m10 0 rfl) rfl
theorem q2252 : (Jvm.Cond.fieldLink "QueueDriveModel" (167 : Nat) "QueueDriveModel" "actFour" "[I") ∈ lw_all := lw_g (lw_at lw_m10 1 rfl) rfl
theorem q2253 : (Jvm.Cond.fieldLink "QueueDriveModel" (389 : Nat) "QueueDriveModel" "acts" "I") ∈ lw_all := lw_g (lw_at lw_m10 2 rfl) rfl
theorem q2254 : (Jvm.Cond.fieldLink "QueueDriveModel" (170 : Nat) "QueueDriveModel" "often" "[I") ∈ lw_all := lw_g (lw_at lw_m10 3 rfl) rfl
theorem q2255 : (Jvm.Cond.fieldLink "QueueDriveModel" (173 : Nat) "QueueDriveModel" "oftenOf" "[I") ∈ lw_all := lw_g (lw_at lw_m10 4 rfl) rfl
theorem q2256 : (Jvm.Cond.fieldLink "QueueDriveModel" (412 : Nat) "QueueDriveModel" "takenMany" "I") ∈ lw_all := lw_g (lw_at lw_m10 5 rfl) rfl
theorem q2257 : (Jvm.Cond.fieldLink "QueueDriveModel" (427 : Nat) "QueueDriveModel" "heardMany" "I") ∈ lw_all := lw_g (lw_at lw_m10 6 rfl) rfl
theorem q2258 : (Jvm.Cond.fieldLink "QueueDriveModel" (176 : Nat) "QueueDriveModel" "heardWhat" "[I") ∈ lw_all := lw_g (lw_at lw_m10 7 rfl) rfl
theorem q2259 : (Jvm.Cond.fieldLink "QueueDriveModel" (179 : Nat) "QueueDriveModel" "heardOf" "[I") ∈ lw_all := lw_g (lw_at lw_m10 8 rfl) rfl
theorem q2260 : (Jvm.Cond.fieldLink "QueueDriveModel" (182 : Nat) "QueueDriveModel" "winning" "[I") ∈ lw_all := lw_g (lw_at lw_m10 9 rfl) rfl
theorem q2261 : (Jvm.Cond.fieldLink "QueueDriveModel" (185 : Nat) "QueueDriveModel" "wasCode" "[I") ∈ lw_all := lw_g (lw_at lw_m10 10 rfl) rfl
theorem q2262 : (Jvm.Cond.fieldLink "QueueDriveModel" (452 : Nat) "QueueDriveModel" "random" "I") ∈ lw_all := lw_g (lw_at lw_m10 11 rfl) rfl
theorem q2263 : (Jvm.Cond.fieldLink "QueueDriveModel" (188 : Nat) "QueueDriveModel" "isKept" "[Z") ∈ lw_all := lw_g (lw_at lw_m10 12 rfl) rfl
theorem q2264 : (Jvm.Cond.fieldLink "QueueDriveModel" (192 : Nat) "QueueDriveModel" "keptChanges" "[I") ∈ lw_all := lw_g (lw_at lw_m10 13 rfl) rfl
theorem q2265 : (Jvm.Cond.fieldLink "QueueDriveModel" (195 : Nat) "QueueDriveModel" "kept" "[I") ∈ lw_all := lw_g (lw_at lw_m10 14 rfl) rfl
theorem q2266 : (Jvm.Cond.lays "QueueDriveModel" "QueueDriveModel" "thrown" "I") ∈ lw_all := lw_g (lw_at lw_m10 15 rfl) rfl
theorem q2267 : (Jvm.Cond.soleField "QueueDriveModel" "thrown") ∈ lw_all := lw_g (lw_at lw_m10 16 rfl) rfl
theorem q2268 : (Jvm.Cond.lays "QueueDriveModel" "QueueDriveModel" "told" "I") ∈ lw_all := lw_g (lw_at lw_m10 17 rfl) rfl
theorem q2269 : (Jvm.Cond.soleField "QueueDriveModel" "told") ∈ lw_all := lw_g (lw_at lw_m10 18 rfl) rfl
theorem q2270 : (Jvm.Cond.laysFinal "QueueDriveModel" "QueueDriveModel" "row" "[J") ∈ lw_all := lw_g (lw_at lw_m10 19 rfl) rfl
theorem q2271 : (Jvm.Cond.soleField "QueueDriveModel" "row") ∈ lw_all := lw_g (lw_at lw_m10 20 rfl) rfl
theorem q2272 : (Jvm.Cond.laysFinal "QueueDriveModel" "QueueDriveModel" "tape" "[I") ∈ lw_all := lw_g (lw_at lw_m10 21 rfl) rfl
theorem q2273 : (Jvm.Cond.soleField "QueueDriveModel" "tape") ∈ lw_all := lw_g (lw_at lw_m10 22 rfl) rfl
theorem q2274 : (Jvm.Cond.lays "QueueDriveModel" "QueueDriveModel" "taped" "I") ∈ lw_all := lw_g (lw_at lw_m10 23 rfl) rfl
theorem q2275 : (Jvm.Cond.soleField "QueueDriveModel" "taped") ∈ lw_all := lw_g (lw_at lw_m10 24 rfl) rfl
theorem q2276 : (Jvm.Cond.lays "QueueDriveModel" "QueueDriveModel" "at" "I") ∈ lw_all := lw_g (lw_at lw_m10 25 rfl) rfl
theorem q2277 : (Jvm.Cond.soleField "QueueDriveModel" "at") ∈ lw_all := lw_g (lw_at lw_m10 26 rfl) rfl
theorem q2278 : (Jvm.Cond.lays "QueueDriveModel" "QueueDriveModel" "to" "I") ∈ lw_all := lw_g (lw_at lw_m10 27 rfl) rfl
theorem q2279 : (Jvm.Cond.soleField "QueueDriveModel" "to") ∈ lw_all := lw_g (lw_at lw_m10 28 rfl) rfl
theorem q2280 : (Jvm.Cond.lays "QueueDriveModel" "QueueDriveModel" "nest" "I") ∈ lw_all := lw_g (lw_at lw_m10 29 rfl) rfl
theorem q2281 : (Jvm.Cond.soleField "QueueDriveModel" "nest") ∈ lw_all := lw_g (lw_at lw_m10 30 rfl) rfl
theorem q2282 : (Jvm.Cond.laysFinal "QueueDriveModel" "QueueDriveModel" "code" "[I") ∈ lw_all := lw_g (lw_at lw_m10 31 rfl) rfl
theorem q2283 : (Jvm.Cond.soleField "QueueDriveModel" "code") ∈ lw_all := lw_g (lw_at lw_m10 32 rfl) rfl
theorem q2284 : (Jvm.Cond.laysFinal "QueueDriveModel" "QueueDriveModel" "readCode" "[I") ∈ lw_all := lw_g (lw_at lw_m10 33 rfl) rfl
theorem q2285 : (Jvm.Cond.soleField "QueueDriveModel" "readCode") ∈ lw_all := lw_g (lw_at lw_m10 34 rfl) rfl
theorem q2286 : (Jvm.Cond.lays "QueueDriveModel" "QueueDriveModel" "codeLong" "I") ∈ lw_all := lw_g (lw_at lw_m10 35 rfl) rfl
theorem q2287 : (Jvm.Cond.soleField "QueueDriveModel" "codeLong") ∈ lw_all := lw_g (lw_at lw_m10 36 rfl) rfl
theorem q2288 : (Jvm.Cond.lays "QueueDriveModel" "QueueDriveModel" "codesRead" "I") ∈ lw_all := lw_g (lw_at lw_m10 37 rfl) rfl
theorem q2289 : (Jvm.Cond.soleField "QueueDriveModel" "codesRead") ∈ lw_all := lw_g (lw_at lw_m10 38 rfl) rfl
theorem q2290 : (Jvm.Cond.laysFinal "QueueDriveModel" "QueueDriveModel" "stack" "[I") ∈ lw_all := lw_g (lw_at lw_m10 39 rfl) rfl
theorem q2291 : (Jvm.Cond.soleField "QueueDriveModel" "stack") ∈ lw_all := lw_g (lw_at lw_m10 40 rfl) rfl
theorem q2292 : (Jvm.Cond.laysFinal "QueueDriveModel" "QueueDriveModel" "asked" "[I") ∈ lw_all := lw_g (lw_at lw_m10 41 rfl) rfl
theorem q2293 : (Jvm.Cond.soleField "QueueDriveModel" "asked") ∈ lw_all := lw_g (lw_at lw_m10 42 rfl) rfl
theorem q2294 : (Jvm.Cond.lays "QueueDriveModel" "QueueDriveModel" "queues" "I") ∈ lw_all := lw_g (lw_at lw_m10 43 rfl) rfl
theorem q2295 : (Jvm.Cond.soleField "QueueDriveModel" "queues") ∈ lw_all := lw_g (lw_at lw_m10 44 rfl) rfl
theorem q2296 : (Jvm.Cond.lays "QueueDriveModel" "QueueDriveModel" "changes" "I") ∈ lw_all := lw_g (lw_at lw_m10 45 rfl) rfl
theorem q2297 : (Jvm.Cond.soleField "QueueDriveModel" "changes") ∈ lw_all := lw_g (lw_at lw_m10 46 rfl) rfl
theorem q2298 : (Jvm.Cond.laysFinal "QueueDriveModel" "QueueDriveModel" "slots" "[I") ∈ lw_all := lw_g (lw_at lw_m10 47 rfl) rfl
theorem q2299 : (Jvm.Cond.soleField "QueueDriveModel" "slots") ∈ lw_all := lw_g (lw_at lw_m10 48 rfl) rfl
theorem q2300 : (Jvm.Cond.laysFinal "QueueDriveModel" "QueueDriveModel" "places" "[I") ∈ lw_all := lw_g (lw_at lw_m10 49 rfl) rfl
theorem q2301 : (Jvm.Cond.soleField "QueueDriveModel" "places") ∈ lw_all := lw_g (lw_at lw_m10 50 rfl) rfl
theorem q2302 : (Jvm.Cond.laysFinal "QueueDriveModel" "QueueDriveModel" "kind" "[I") ∈ lw_all := lw_g (lw_at lw_m10 51 rfl) rfl
theorem q2303 : (Jvm.Cond.soleField "QueueDriveModel" "kind") ∈ lw_all := lw_g (lw_at lw_m10 52 rfl) rfl
theorem q2304 : (Jvm.Cond.laysFinal "QueueDriveModel" "QueueDriveModel" "shadowed" "[I") ∈ lw_all := lw_g (lw_at lw_m10 53 rfl) rfl
theorem q2305 : (Jvm.Cond.soleField "QueueDriveModel" "shadowed") ∈ lw_all := lw_g (lw_at lw_m10 54 rfl) rfl
theorem q2306 : (Jvm.Cond.laysFinal "QueueDriveModel" "QueueDriveModel" "now" "[I") ∈ lw_all := lw_g (lw_at lw_m10 55 rfl) rfl
theorem q2307 : (Jvm.Cond.soleField "QueueDriveModel" "now") ∈ lw_all := lw_g (lw_at lw_m10 56 rfl) rfl
theorem q2308 : (Jvm.Cond.laysFinal "QueueDriveModel" "QueueDriveModel" "then" "[I") ∈ lw_all := lw_g (lw_at lw_m10 57 rfl) rfl
theorem q2309 : (Jvm.Cond.soleField "QueueDriveModel" "then") ∈ lw_all := lw_g (lw_at lw_m10 58 rfl) rfl
theorem q2310 : (Jvm.Cond.lays "QueueDriveModel" "QueueDriveModel" "undos" "I") ∈ lw_all := lw_g (lw_at lw_m10 59 rfl) rfl
theorem q2311 : (Jvm.Cond.soleField "QueueDriveModel" "undos") ∈ lw_all := lw_g (lw_at lw_m10 60 rfl) rfl
theorem q2312 : (Jvm.Cond.laysFinal "QueueDriveModel" "QueueDriveModel" "undone" "[I") ∈ lw_all := lw_g (lw_at lw_m10 61 rfl) rfl
theorem q2313 : (Jvm.Cond.soleField "QueueDriveModel" "undone") ∈ lw_all := lw_g (lw_at lw_m10 62 rfl) rfl
theorem q2314 : (Jvm.Cond.lays "QueueDriveModel" "QueueDriveModel" "postedMany" "I") ∈ lw_all := lw_g (lw_at lw_m10 63 rfl) rfl
theorem q2315 : (Jvm.Cond.soleField "QueueDriveModel" "postedMany") ∈ lw_all := lw_g (lw_at lw_m10 64 rfl) rfl
theorem q2316 : (Jvm.Cond.lays "QueueDriveModel" "QueueDriveModel" "fetchedMany" "I") ∈ lw_all := lw_g (lw_at lw_m10 65 rfl) rfl
theorem q2317 : (Jvm.Cond.soleField "QueueDriveModel" "fetchedMany") ∈ lw_all := lw_g (lw_at lw_m10 66 rfl) rfl
theorem q2318 : (Jvm.Cond.lays "QueueDriveModel" "QueueDriveModel" "idleMany" "I") ∈ lw_all := lw_g (lw_at lw_m10 67 rfl) rfl
theorem q2319 : (Jvm.Cond.soleField "QueueDriveModel" "idleMany") ∈ lw_all := lw_g (lw_at lw_m10 68 rfl) rfl
theorem q2320 : (Jvm.Cond.laysFinal "QueueDriveModel" "QueueDriveModel" "actSign" "[I") ∈ lw_all := lw_g (lw_at lw_m10 69 rfl) rfl
theorem q2321 : (Jvm.Cond.soleField "QueueDriveModel" "actSign") ∈ lw_all := lw_g (lw_at lw_m10 70 rfl) rfl
theorem q2322 : (Jvm.Cond.laysFinal "QueueDriveModel" "QueueDriveModel" "actOne" "[I") ∈ lw_all := lw_g (lw_at lw_m10 71 rfl) rfl
theorem q2323 : (Jvm.Cond.soleField "QueueDriveModel" "actOne") ∈ lw_all := lw_g (lw_at lw_m10 72 rfl) rfl
theorem q2324 : (Jvm.Cond.laysFinal "QueueDriveModel" "QueueDriveModel" "actTwo" "[I") ∈ lw_all := lw_g (lw_at lw_m10 73 rfl) rfl
theorem q2325 : (Jvm.Cond.soleField "QueueDriveModel" "actTwo") ∈ lw_all := lw_g (lw_at lw_m10 74 rfl) rfl
theorem q2326 : (Jvm.Cond.laysFinal "QueueDriveModel" "QueueDriveModel" "actThree" "[I") ∈ lw_all := lw_g (lw_at lw_m10 75 rfl) rfl
theorem q2327 : (Jvm.Cond.soleField "QueueDriveModel" "actThree") ∈ lw_all := lw_g (lw_at lw_m10 76 rfl) rfl
theorem q2328 : (Jvm.Cond.laysFinal "QueueDriveModel" "QueueDriveModel" "actFour" "[I") ∈ lw_all := lw_g (lw_at lw_m10 77 rfl) rfl
theorem q2329 : (Jvm.Cond.soleField "QueueDriveModel" "actFour") ∈ lw_all := lw_g (lw_at lw_m10 78 rfl) rfl
theorem q2330 : (Jvm.Cond.lays "QueueDriveModel" "QueueDriveModel" "acts" "I") ∈ lw_all := lw_g (lw_at lw_m10 79 rfl) rfl
theorem q2331 : (Jvm.Cond.soleField "QueueDriveModel" "acts") ∈ lw_all := lw_g (lw_at lw_m10 80 rfl) rfl
theorem q2332 : (Jvm.Cond.laysFinal "QueueDriveModel" "QueueDriveModel" "often" "[I") ∈ lw_all := lw_g (lw_at lw_m10 81 rfl) rfl
theorem q2333 : (Jvm.Cond.soleField "QueueDriveModel" "often") ∈ lw_all := lw_g (lw_at lw_m10 82 rfl) rfl
theorem q2334 : (Jvm.Cond.laysFinal "QueueDriveModel" "QueueDriveModel" "oftenOf" "[I") ∈ lw_all := lw_g (lw_at lw_m10 83 rfl) rfl
theorem q2335 : (Jvm.Cond.soleField "QueueDriveModel" "oftenOf") ∈ lw_all := lw_g (lw_at lw_m10 84 rfl) rfl
theorem q2336 : (Jvm.Cond.lays "QueueDriveModel" "QueueDriveModel" "takenMany" "I") ∈ lw_all := lw_g (lw_at lw_m10 85 rfl) rfl
theorem q2337 : (Jvm.Cond.soleField "QueueDriveModel" "takenMany") ∈ lw_all := lw_g (lw_at lw_m10 86 rfl) rfl
theorem q2338 : (Jvm.Cond.lays "QueueDriveModel" "QueueDriveModel" "heardMany" "I") ∈ lw_all := lw_g (lw_at lw_m10 87 rfl) rfl
theorem q2339 : (Jvm.Cond.soleField "QueueDriveModel" "heardMany") ∈ lw_all := lw_g (lw_at lw_m10 88 rfl) rfl
theorem q2340 : (Jvm.Cond.laysFinal "QueueDriveModel" "QueueDriveModel" "heardWhat" "[I") ∈ lw_all := lw_g (lw_at lw_m10 89 rfl) rfl
theorem q2341 : (Jvm.Cond.soleField "QueueDriveModel" "heardWhat") ∈ lw_all := lw_g (lw_at lw_m10 90 rfl) rfl
theorem q2342 : (Jvm.Cond.laysFinal "QueueDriveModel" "QueueDriveModel" "heardOf" "[I") ∈ lw_all := lw_g (lw_at lw_m10 91 rfl) rfl
theorem q2343 : (Jvm.Cond.soleField "QueueDriveModel" "heardOf") ∈ lw_all := lw_g (lw_at lw_m10 92 rfl) rfl
theorem q2344 : (Jvm.Cond.laysFinal "QueueDriveModel" "QueueDriveModel" "winning" "[I") ∈ lw_all := lw_g (lw_at lw_m10 93 rfl) rfl
theorem q2345 : (Jvm.Cond.soleField "QueueDriveModel" "winning") ∈ lw_all := lw_g (lw_at lw_m10 94 rfl) rfl
theorem q2346 : (Jvm.Cond.laysFinal "QueueDriveModel" "QueueDriveModel" "wasCode" "[I") ∈ lw_all := lw_g (lw_at lw_m10 95 rfl) rfl
theorem q2347 : (Jvm.Cond.soleField "QueueDriveModel" "wasCode") ∈ lw_all := lw_g (lw_at lw_m10 96 rfl) rfl
theorem q2348 : (Jvm.Cond.lays "QueueDriveModel" "QueueDriveModel" "random" "I") ∈ lw_all := lw_g (lw_at lw_m10 97 rfl) rfl
theorem q2349 : (Jvm.Cond.soleField "QueueDriveModel" "random") ∈ lw_all := lw_g (lw_at lw_m10 98 rfl) rfl
theorem q2350 : (Jvm.Cond.laysFinal "QueueDriveModel" "QueueDriveModel" "isKept" "[Z") ∈ lw_all := lw_g (lw_at lw_m10 99 rfl) rfl
theorem q2351 : (Jvm.Cond.soleField "QueueDriveModel" "isKept") ∈ lw_all := lw_g (lw_at lw_m10 100 rfl) rfl
theorem q2352 : (Jvm.Cond.laysFinal "QueueDriveModel" "QueueDriveModel" "keptChanges" "[I") ∈ lw_all := lw_g (lw_at lw_m10 101 rfl) rfl
theorem q2353 : (Jvm.Cond.soleField "QueueDriveModel" "keptChanges") ∈ lw_all := lw_g (lw_at lw_m10 102 rfl) rfl
theorem q2354 : (Jvm.Cond.laysFinal "QueueDriveModel" "QueueDriveModel" "kept" "[I") ∈ lw_all := lw_g (lw_at lw_m10 103 rfl) rfl
theorem q2355 : (Jvm.Cond.soleField "QueueDriveModel" "kept") ∈ lw_all := lw_g (lw_at lw_m10 104 rfl) rfl
theorem q2356 : (Jvm.Cond.superclass "QueueDriveModel" "java/lang/Object") ∈ lw_all := lw_g (lw_at lw_m10 105 rfl) rfl
theorem q2358 : (Jvm.Cond.instanceMethod ({ cls := "QueueDriveModel", name := "queues", desc := "()I" } : Jvm.MethodName)) ∈ lw_all := lw_g (lw_at lw_m10 107 rfl) rfl
theorem q2359 : (Jvm.Cond.selects "QueueDriveModel" ({ cls := "QueueDriveModel", name := "queues", desc := "()I" } : Jvm.MethodName) ({ cls := "QueueDriveModel", name := "queues", desc := "()I" } : Jvm.MethodName)) ∈ lw_all := lw_g (lw_at lw_m10 108 rfl) rfl
theorem q2360 : (Jvm.Cond.code ({ cls := "QueueDriveModel", name := "queues", desc := "()I" } : Jvm.MethodName) prog_13_method_30_code (5 : Nat) (Option.some Jvm.ClassFile.FieldType.int)) ∈ lw_all := lw_g (lw_at lw_m10 109 rfl) rfl
theorem q2361 : (Jvm.Cond.methodLink "QueueDriveModel" (201 : Nat) ({ cls := "QueueDriveModel", name := "digitIn", desc := "(II)I" } : Jvm.MethodName)) ∈ lw_all := lw_g (lw_at lw_m10 110 rfl) rfl
theorem q2362 : (Jvm.Cond.privateMethod ({ cls := "QueueDriveModel", name := "digitIn", desc := "(II)I" } : Jvm.MethodName)) ∈ lw_tbl := lw_at lw_m10 111 rfl
theorem q2363 : (Jvm.Cond.instanceMethod ({ cls := "QueueDriveModel", name := "digitIn", desc := "(II)I" } : Jvm.MethodName)) ∈ lw_all := lw_g (lw_at lw_m10 112 rfl) rfl
theorem q2364 : (Jvm.Cond.code ({ cls := "QueueDriveModel", name := "digitIn", desc := "(II)I" } : Jvm.MethodName) prog_13_method_14_code (3 : Nat) (Option.some Jvm.ClassFile.FieldType.int)) ∈ lw_all := lw_g (lw_at lw_m10 113 rfl) rfl
theorem q2365 : (Jvm.Cond.stringRef "QueueDriveModel" (204 : Nat) "uhml") ∈ lw_tbl := lw_at lw_m10 114 rfl
theorem q2367 : (Jvm.Cond.instanceMethod ({ cls := "QueueDriveModel", name := "queue", desc := "(II)I" } : Jvm.MethodName)) ∈ lw_all := lw_g (lw_at lw_m10 116 rfl) rfl
theorem q2368 : (Jvm.Cond.selects "QueueDriveModel" ({ cls := "QueueDriveModel", name := "queue", desc := "(II)I" } : Jvm.MethodName) ({ cls := "QueueDriveModel", name := "queue", desc := "(II)I" } : Jvm.MethodName)) ∈ lw_all := lw_g (lw_at lw_m10 117 rfl) rfl
theorem q2369 : (Jvm.Cond.code ({ cls := "QueueDriveModel", name := "queue", desc := "(II)I" } : Jvm.MethodName) prog_13_method_31_code (3 : Nat) (Option.some Jvm.ClassFile.FieldType.int)) ∈ lw_all := lw_g (lw_at lw_m10 118 rfl) rfl
theorem q2370 : (Jvm.Cond.methodLink "QueueDriveModel" (212 : Nat) ({ cls := "QueueDriveModel", name := "isQueue", desc := "(I)Z" } : Jvm.MethodName)) ∈ lw_all := lw_g (lw_at lw_m10 119 rfl) rfl
theorem q2371 : (Jvm.Cond.privateMethod ({ cls := "QueueDriveModel", name := "isQueue", desc := "(I)Z" } : Jvm.MethodName)) ∈ lw_tbl := lw_at lw_m10 120 rfl
theorem q2372 : (Jvm.Cond.instanceMethod ({ cls := "QueueDriveModel", name := "isQueue", desc := "(I)Z" } : Jvm.MethodName)) ∈ lw_all := lw_g (lw_at lw_m10 121 rfl) rfl
theorem q2373 : (Jvm.Cond.code ({ cls := "QueueDriveModel", name := "isQueue", desc := "(I)Z" } : Jvm.MethodName) prog_13_method_25_code (2 : Nat) (Option.some Jvm.ClassFile.FieldType.boolean)) ∈ lw_all := lw_g (lw_at lw_m10 122 rfl) rfl
theorem q2374 : (Jvm.Cond.constantLong "QueueDriveModel" (215 : Nat) (12 : Int64)) ∈ lw_all := lw_g (lw_at lw_m10 123 rfl) rfl
theorem q2375 : (Jvm.Cond.methodLink "QueueDriveModel" (217 : Nat) ({ cls := "QueueDriveModel", name := "refuse", desc := "()I" } : Jvm.MethodName)) ∈ lw_all := lw_g (lw_at lw_m10 124 rfl) rfl
theorem q2376 : (Jvm.Cond.privateMethod ({ cls := "QueueDriveModel", name := "refuse", desc := "()I" } : Jvm.MethodName)) ∈ lw_tbl := lw_at lw_m10 125 rfl
theorem q2377 : (Jvm.Cond.instanceMethod ({ cls := "QueueDriveModel", name := "refuse", desc := "()I" } : Jvm.MethodName)) ∈ lw_all := lw_g (lw_at lw_m10 126 rfl) rfl
theorem q2378 : (Jvm.Cond.code ({ cls := "QueueDriveModel", name := "refuse", desc := "()I" } : Jvm.MethodName) prog_13_method_2_code (1 : Nat) (Option.some Jvm.ClassFile.FieldType.int)) ∈ lw_all := lw_g (lw_at lw_m10 127 rfl) rfl
theorem q2379 : (Jvm.Cond.methodLink "QueueDriveModel" (220 : Nat) ({ cls := "QueueDriveModel", name := "of", desc := "([III)I" } : Jvm.MethodName)) ∈ lw_all := lw_g (lw_at lw_m10 128 rfl) rfl
theorem q2380 : (Jvm.Cond.static ({ cls := "QueueDriveModel", name := "of", desc := "([III)I" } : Jvm.MethodName)) ∈ lw_all := lw_g (lw_at lw_m10 129 rfl) rfl
theorem q2381 : (Jvm.Cond.code ({ cls := "QueueDriveModel", name := "of", desc := "([III)I" } : Jvm.MethodName) prog_13_method_26_code (3 : Nat) (Option.some Jvm.ClassFile.FieldType.int)) ∈ lw_all := lw_g (lw_at lw_m10 130 rfl) rfl
theorem q2383 : (Jvm.Cond.instanceMethod ({ cls := "QueueDriveModel", name := "sheet", desc := "(IIII)I" } : Jvm.MethodName)) ∈ lw_all := lw_g (lw_at lw_m10 132 rfl) rfl
theorem q2384 : (Jvm.Cond.selects "QueueDriveModel" ({ cls := "QueueDriveModel", name := "sheet", desc := "(IIII)I" } : Jvm.MethodName) ({ cls := "QueueDriveModel", name := "sheet", desc := "(IIII)I" } : Jvm.MethodName)) ∈ lw_all := lw_g (lw_at lw_m10 133 rfl) rfl
theorem q2385 : (Jvm.Cond.code ({ cls := "QueueDriveModel", name := "sheet", desc := "(IIII)I" } : Jvm.MethodName) prog_13_method_33_code (8 : Nat) (Option.some Jvm.ClassFile.FieldType.int)) ∈ lw_all := lw_g (lw_at lw_m10 134 rfl) rfl
theorem q2386 : (Jvm.Cond.constantLong "QueueDriveModel" (224 : Nat) (3 : Int64)) ∈ lw_all := lw_g (lw_at lw_m10 135 rfl) rfl
theorem q2387 : (Jvm.Cond.methodLink "QueueDriveModel" (226 : Nat) ({ cls := "java/lang/Math", name := "max", desc := "(II)I" } : Jvm.MethodName)) ∈ lw_all := lw_g (lw_at lw_m10 136 rfl) rfl
theorem q2388 : (Jvm.Cond.methodLink "QueueDriveModel" (229 : Nat) ({ cls := "QueueDriveModel", name := "blocksOf", desc := "([I)I" } : Jvm.MethodName)) ∈ lw_all := lw_g (lw_at lw_m10 137 rfl) rfl
theorem q2389 : (Jvm.Cond.static ({ cls := "QueueDriveModel", name := "blocksOf", desc := "([I)I" } : Jvm.MethodName)) ∈ lw_all := lw_g (lw_at lw_m10 138 rfl) rfl
theorem q2390 : (Jvm.Cond.code ({ cls := "QueueDriveModel", name := "blocksOf", desc := "([I)I" } : Jvm.MethodName) prog_13_method_32_code (3 : Nat) (Option.some Jvm.ClassFile.FieldType.int)) ∈ lw_all := lw_g (lw_at lw_m10 139 rfl) rfl
theorem q2392 : (Jvm.Cond.instanceMethod ({ cls := "QueueDriveModel", name := "undo", desc := "()I" } : Jvm.MethodName)) ∈ lw_all := lw_g (lw_at lw_m10 141 rfl) rfl
theorem q2393 : (Jvm.Cond.selects "QueueDriveModel" ({ cls := "QueueDriveModel", name := "undo", desc := "()I" } : Jvm.MethodName) ({ cls := "QueueDriveModel", name := "undo", desc := "()I" } : Jvm.MethodName)) ∈ lw_all := lw_g (lw_at lw_m10 142 rfl) rfl
theorem q2394 : (Jvm.Cond.code ({ cls := "QueueDriveModel", name := "undo", desc := "()I" } : Jvm.MethodName) prog_13_method_37_code (2 : Nat) (Option.some Jvm.ClassFile.FieldType.int)) ∈ lw_all := lw_g (lw_at lw_m10 143 rfl) rfl
theorem q2396 : (Jvm.Cond.instanceMethod ({ cls := "QueueDriveModel", name := "puts", desc := "(IIII)I" } : Jvm.MethodName)) ∈ lw_all := lw_g (lw_at lw_m10 145 rfl) rfl
theorem q2397 : (Jvm.Cond.selects "QueueDriveModel" ({ cls := "QueueDriveModel", name := "puts", desc := "(IIII)I" } : Jvm.MethodName) ({ cls := "QueueDriveModel", name := "puts", desc := "(IIII)I" } : Jvm.MethodName)) ∈ lw_all := lw_g (lw_at lw_m10 146 rfl) rfl
theorem q2398 : (Jvm.Cond.code ({ cls := "QueueDriveModel", name := "puts", desc := "(IIII)I" } : Jvm.MethodName) prog_13_method_72_code (5 : Nat) (Option.some Jvm.ClassFile.FieldType.int)) ∈ lw_all := lw_g (lw_at lw_m10 147 rfl) rfl
theorem q2399 : (Jvm.Cond.methodLink "QueueDriveModel" (355 : Nat) ({ cls := "QueueDriveModel", name := "putsBy", desc := "()V" } : Jvm.MethodName)) ∈ lw_all := lw_g (lw_at lw_m10 148 rfl) rfl
theorem q2400 : (Jvm.Cond.privateMethod ({ cls := "QueueDriveModel", name := "putsBy", desc := "()V" } : Jvm.MethodName)) ∈ lw_tbl := lw_at lw_m10 149 rfl
theorem q2401 : (Jvm.Cond.instanceMethod ({ cls := "QueueDriveModel", name := "putsBy", desc := "()V" } : Jvm.MethodName)) ∈ lw_all := lw_g (lw_at lw_m10 150 rfl) rfl
theorem q2402 : (Jvm.Cond.code ({ cls := "QueueDriveModel", name := "putsBy", desc := "()V" } : Jvm.MethodName) prog_13_method_34_code (2 : Nat) (Option.none : Option Jvm.ClassFile.FieldType)) ∈ lw_all := lw_g (lw_at lw_m10 151 rfl) rfl
theorem q2403 : (Jvm.Cond.methodLink "QueueDriveModel" (358 : Nat) ({ cls := "QueueDriveModel", name := "putsOne", desc := "([IIIII)I" } : Jvm.MethodName)) ∈ lw_all := lw_g (lw_at lw_m10 152 rfl) rfl
theorem q2404 : (Jvm.Cond.privateMethod ({ cls := "QueueDriveModel", name := "putsOne", desc := "([IIIII)I" } : Jvm.MethodName)) ∈ lw_tbl := lw_at lw_m10 153 rfl
theorem q2405 : (Jvm.Cond.instanceMethod ({ cls := "QueueDriveModel", name := "putsOne", desc := "([IIIII)I" } : Jvm.MethodName)) ∈ lw_all := lw_g (lw_at lw_m10 154 rfl) rfl
theorem q2406 : (Jvm.Cond.code ({ cls := "QueueDriveModel", name := "putsOne", desc := "([IIIII)I" } : Jvm.MethodName) prog_13_method_50_code (8 : Nat) (Option.some Jvm.ClassFile.FieldType.int)) ∈ lw_all := lw_g (lw_at lw_m10 155 rfl) rfl
theorem q2407 : (Jvm.Cond.constantLong "QueueDriveModel" (268 : Nat) (4 : Int64)) ∈ lw_all := lw_g (lw_at lw_m10 156 rfl) rfl
theorem q2408 : (Jvm.Cond.constantLong "QueueDriveModel" (270 : Nat) (9 : Int64)) ∈ lw_all := lw_g (lw_at lw_m10 157 rfl) rfl
theorem q2409 : (Jvm.Cond.constantLong "QueueDriveModel" (272 : Nat) (99 : Int64)) ∈ lw_all := lw_g (lw_at lw_m10 158 rfl) rfl
theorem q2410 : (Jvm.Cond.methodLink "QueueDriveModel" (274 : Nat) ({ cls := "QueueDriveModel", name := "freeId", desc := "([II)I" } : Jvm.MethodName)) ∈ lw_all := lw_g (lw_at lw_m10 159 rfl) rfl
theorem q2411 : (Jvm.Cond.static ({ cls := "QueueDriveModel", name := "freeId", desc := "([II)I" } : Jvm.MethodName)) ∈ lw_all := lw_g (lw_at lw_m10 160 rfl) rfl
theorem q2412 : (Jvm.Cond.code ({ cls := "QueueDriveModel", name := "freeId", desc := "([II)I" } : Jvm.MethodName) prog_13_method_46_code (3 : Nat) (Option.some Jvm.ClassFile.FieldType.int)) ∈ lw_all := lw_g (lw_at lw_m10 161 rfl) rfl
theorem q2413 : (Jvm.Cond.methodLink "QueueDriveModel" (265 : Nat) ({ cls := "QueueDriveModel", name := "isUsed", desc := "([III)Z" } : Jvm.MethodName)) ∈ lw_all := lw_g (lw_at lw_m10 162 rfl) rfl
theorem q2414 : (Jvm.Cond.static ({ cls := "QueueDriveModel", name := "isUsed", desc := "([III)Z" } : Jvm.MethodName)) ∈ lw_all := lw_g (lw_at lw_m10 163 rfl) rfl
theorem q2415 : (Jvm.Cond.code ({ cls := "QueueDriveModel", name := "isUsed", desc := "([III)Z" } : Jvm.MethodName) prog_13_method_45_code (3 : Nat) (Option.some Jvm.ClassFile.FieldType.boolean)) ∈ lw_all := lw_g (lw_at lw_m10 164 rfl) rfl
theorem q2416 : (Jvm.Cond.methodLink "QueueDriveModel" (252 : Nat) ({ cls := "QueueDriveModel", name := "ringOf", desc := "([III)I" } : Jvm.MethodName)) ∈ lw_all := lw_g (lw_at lw_m10 165 rfl) rfl
theorem q2417 : (Jvm.Cond.static ({ cls := "QueueDriveModel", name := "ringOf", desc := "([III)I" } : Jvm.MethodName)) ∈ lw_all := lw_g (lw_at lw_m10 166 rfl) rfl
theorem q2418 : (Jvm.Cond.code ({ cls := "QueueDriveModel", name := "ringOf", desc := "([III)I" } : Jvm.MethodName) prog_13_method_41_code (4 : Nat) (Option.some Jvm.ClassFile.FieldType.int)) ∈ lw_all := lw_g (lw_at lw_m10 167 rfl) rfl
theorem q2419 : (Jvm.Cond.methodLink "QueueDriveModel" (239 : Nat) ({ cls := "QueueDriveModel", name := "ringAt", desc := "(II)I" } : Jvm.MethodName)) ∈ lw_all := lw_g (lw_at lw_m10 168 rfl) rfl
theorem q2420 : (Jvm.Cond.static ({ cls := "QueueDriveModel", name := "ringAt", desc := "(II)I" } : Jvm.MethodName)) ∈ lw_all := lw_g (lw_at lw_m10 169 rfl) rfl
theorem q2421 : (Jvm.Cond.code ({ cls := "QueueDriveModel", name := "ringAt", desc := "(II)I" } : Jvm.MethodName) prog_13_method_28_code (2 : Nat) (Option.some Jvm.ClassFile.FieldType.int)) ∈ lw_all := lw_g (lw_at lw_m10 170 rfl) rfl
theorem q2422 : (Jvm.Cond.methodLink "QueueDriveModel" (255 : Nat) ({ cls := "QueueDriveModel", name := "runOf", desc := "([III)I" } : Jvm.MethodName)) ∈ lw_all := lw_g (lw_at lw_m10 171 rfl) rfl
theorem q2423 : (Jvm.Cond.static ({ cls := "QueueDriveModel", name := "runOf", desc := "([III)I" } : Jvm.MethodName)) ∈ lw_all := lw_g (lw_at lw_m10 172 rfl) rfl
theorem q2424 : (Jvm.Cond.code ({ cls := "QueueDriveModel", name := "runOf", desc := "([III)I" } : Jvm.MethodName) prog_13_method_42_code (5 : Nat) (Option.some Jvm.ClassFile.FieldType.int)) ∈ lw_all := lw_g (lw_at lw_m10 173 rfl) rfl
theorem q2425 : (Jvm.Cond.methodLink "QueueDriveModel" (236 : Nat) ({ cls := "QueueDriveModel", name := "runAt", desc := "(I)I" } : Jvm.MethodName)) ∈ lw_all := lw_g (lw_at lw_m10 174 rfl) rfl
theorem q2426 : (Jvm.Cond.static ({ cls := "QueueDriveModel", name := "runAt", desc := "(I)I" } : Jvm.MethodName)) ∈ lw_all := lw_g (lw_at lw_m10 175 rfl) rfl
theorem q2427 : (Jvm.Cond.code ({ cls := "QueueDriveModel", name := "runAt", desc := "(I)I" } : Jvm.MethodName) prog_13_method_38_code (1 : Nat) (Option.some Jvm.ClassFile.FieldType.int)) ∈ lw_all := lw_g (lw_at lw_m10 176 rfl) rfl
theorem q2428 : (Jvm.Cond.methodLink "QueueDriveModel" (242 : Nat) ({ cls := "QueueDriveModel", name := "hasSecond", desc := "([II)Z" } : Jvm.MethodName)) ∈ lw_all := lw_g (lw_at lw_m10 177 rfl) rfl
theorem q2429 : (Jvm.Cond.static ({ cls := "QueueDriveModel", name := "hasSecond", desc := "([II)Z" } : Jvm.MethodName)) ∈ lw_all := lw_g (lw_at lw_m10 178 rfl) rfl
theorem q2430 : (Jvm.Cond.code ({ cls := "QueueDriveModel", name := "hasSecond", desc := "([II)Z" } : Jvm.MethodName) prog_13_method_40_code (2 : Nat) (Option.some Jvm.ClassFile.FieldType.boolean)) ∈ lw_all := lw_g (lw_at lw_m10 179 rfl) rfl
theorem q2431 : (Jvm.Cond.methodLink "QueueDriveModel" (258 : Nat) ({ cls := "QueueDriveModel", name := "outOf", desc := "([III)I" } : Jvm.MethodName)) ∈ lw_all := lw_g (lw_at lw_m10 180 rfl) rfl
theorem q2432 : (Jvm.Cond.static ({ cls := "QueueDriveModel", name := "outOf", desc := "([III)I" } : Jvm.MethodName)) ∈ lw_all := lw_g (lw_at lw_m10 181 rfl) rfl
theorem q2433 : (Jvm.Cond.code ({ cls := "QueueDriveModel", name := "outOf", desc := "([III)I" } : Jvm.MethodName) prog_13_method_43_code (4 : Nat) (Option.some Jvm.ClassFile.FieldType.int)) ∈ lw_all := lw_g (lw_at lw_m10 182 rfl) rfl
theorem q2434 : (Jvm.Cond.methodLink "QueueDriveModel" (246 : Nat) ({ cls := "QueueDriveModel", name := "outAt", desc := "(I)I" } : Jvm.MethodName)) ∈ lw_all := lw_g (lw_at lw_m10 183 rfl) rfl
theorem q2435 : (Jvm.Cond.static ({ cls := "QueueDriveModel", name := "outAt", desc := "(I)I" } : Jvm.MethodName)) ∈ lw_all := lw_g (lw_at lw_m10 184 rfl) rfl
theorem q2436 : (Jvm.Cond.code ({ cls := "QueueDriveModel", name := "outAt", desc := "(I)I" } : Jvm.MethodName) prog_13_method_39_code (1 : Nat) (Option.some Jvm.ClassFile.FieldType.int)) ∈ lw_all := lw_g (lw_at lw_m10 185 rfl) rfl
theorem q2437 : (Jvm.Cond.methodLink "QueueDriveModel" (261 : Nat) ({ cls := "QueueDriveModel", name := "isPosted", desc := "([III)Z" } : Jvm.MethodName)) ∈ lw_all := lw_g (lw_at lw_m10 186 rfl) rfl
theorem q2438 : (Jvm.Cond.static ({ cls := "QueueDriveModel", name := "isPosted", desc := "([III)Z" } : Jvm.MethodName)) ∈ lw_all := lw_g (lw_at lw_m10 187 rfl) rfl
theorem q2439 : (Jvm.Cond.code ({ cls := "QueueDriveModel", name := "isPosted", desc := "([III)Z" } : Jvm.MethodName) prog_13_method_44_code (5 : Nat) (Option.some Jvm.ClassFile.FieldType.boolean)) ∈ lw_all := lw_g (lw_at lw_m10 188 rfl) rfl
theorem q2440 : (Jvm.Cond.methodLink "QueueDriveModel" (249 : Nat) ({ cls := "QueueDriveModel", name := "placeAt", desc := "(II)I" } : Jvm.MethodName)) ∈ lw_all := lw_g (lw_at lw_m10 189 rfl) rfl
theorem q2441 : (Jvm.Cond.static ({ cls := "QueueDriveModel", name := "placeAt", desc := "(II)I" } : Jvm.MethodName)) ∈ lw_all := lw_g (lw_at lw_m10 190 rfl) rfl
theorem q2442 : (Jvm.Cond.code ({ cls := "QueueDriveModel", name := "placeAt", desc := "(II)I" } : Jvm.MethodName) prog_13_method_29_code (2 : Nat) (Option.some Jvm.ClassFile.FieldType.int)) ∈ lw_all := lw_g (lw_at lw_m10 191 rfl) rfl
theorem q2443 : (Jvm.Cond.methodLink "QueueDriveModel" (278 : Nat) ({ cls := "QueueDriveModel", name := "sets", desc := "([IIII)V" } : Jvm.MethodName)) ∈ lw_all := lw_g (lw_at lw_m10 192 rfl) rfl
theorem q2444 : (Jvm.Cond.static ({ cls := "QueueDriveModel", name := "sets", desc := "([IIII)V" } : Jvm.MethodName)) ∈ lw_all := lw_g (lw_at lw_m10 193 rfl) rfl
theorem q2445 : (Jvm.Cond.code ({ cls := "QueueDriveModel", name := "sets", desc := "([IIII)V" } : Jvm.MethodName) prog_13_method_27_code (4 : Nat) (Option.none : Option Jvm.ClassFile.FieldType)) ∈ lw_all := lw_g (lw_at lw_m10 194 rfl) rfl
theorem q2446 : (Jvm.Cond.methodLink "QueueDriveModel" (362 : Nat) ({ cls := "QueueDriveModel", name := "counted", desc := "(I)I" } : Jvm.MethodName)) ∈ lw_all := lw_g (lw_at lw_m10 195 rfl) rfl
theorem q2447 : (Jvm.Cond.privateMethod ({ cls := "QueueDriveModel", name := "counted", desc := "(I)I" } : Jvm.MethodName)) ∈ lw_tbl := lw_at lw_m10 196 rfl
theorem q2448 : (Jvm.Cond.instanceMethod ({ cls := "QueueDriveModel", name := "counted", desc := "(I)I" } : Jvm.MethodName)) ∈ lw_all := lw_g (lw_at lw_m10 197 rfl) rfl
theorem q2449 : (Jvm.Cond.code ({ cls := "QueueDriveModel", name := "counted", desc := "(I)I" } : Jvm.MethodName) prog_13_method_36_code (2 : Nat) (Option.some Jvm.ClassFile.FieldType.int)) ∈ lw_all := lw_g (lw_at lw_m10 198 rfl) rfl
theorem q2450 : (Jvm.Cond.methodLink "QueueDriveModel" (233 : Nat) ({ cls := "QueueDriveModel", name := "adds", desc := "(I)I" } : Jvm.MethodName)) ∈ lw_all := lw_g (lw_at lw_m10 199 rfl) rfl
theorem q2451 : (Jvm.Cond.privateMethod ({ cls := "QueueDriveModel", name := "adds", desc := "(I)I" } : Jvm.MethodName)) ∈ lw_tbl := lw_at lw_m10 200 rfl
theorem q2452 : (Jvm.Cond.instanceMethod ({ cls := "QueueDriveModel", name := "adds", desc := "(I)I" } : Jvm.MethodName)) ∈ lw_all := lw_g (lw_at lw_m10 201 rfl) rfl
theorem q2453 : (Jvm.Cond.code ({ cls := "QueueDriveModel", name := "adds", desc := "(I)I" } : Jvm.MethodName) prog_13_method_35_code (3 : Nat) (Option.some Jvm.ClassFile.FieldType.int)) ∈ lw_all := lw_g (lw_at lw_m10 202 rfl) rfl
theorem q2455 : (Jvm.Cond.instanceMethod ({ cls := "QueueDriveModel", name := "ring", desc := "(I)I" } : Jvm.MethodName)) ∈ lw_all := lw_g (lw_at lw_m10 204 rfl) rfl
theorem q2456 : (Jvm.Cond.selects "QueueDriveModel" ({ cls := "QueueDriveModel", name := "ring", desc := "(I)I" } : Jvm.MethodName) ({ cls := "QueueDriveModel", name := "ring", desc := "(I)I" } : Jvm.MethodName)) ∈ lw_all := lw_g (lw_at lw_m10 205 rfl) rfl
theorem q2457 : (Jvm.Cond.code ({ cls := "QueueDriveModel", name := "ring", desc := "(I)I" } : Jvm.MethodName) prog_13_method_73_code (2 : Nat) (Option.some Jvm.ClassFile.FieldType.int)) ∈ lw_all := lw_g (lw_at lw_m10 206 rfl) rfl
theorem q2458 : (Jvm.Cond.methodLink "QueueDriveModel" (365 : Nat) ({ cls := "QueueDriveModel", name := "ringsOne", desc := "([II)I" } : Jvm.MethodName)) ∈ lw_all := lw_g (lw_at lw_m10 207 rfl) rfl
theorem q2459 : (Jvm.Cond.privateMethod ({ cls := "QueueDriveModel", name := "ringsOne", desc := "([II)I" } : Jvm.MethodName)) ∈ lw_tbl := lw_at lw_m10 208 rfl
theorem q2460 : (Jvm.Cond.instanceMethod ({ cls := "QueueDriveModel", name := "ringsOne", desc := "([II)I" } : Jvm.MethodName)) ∈ lw_all := lw_g (lw_at lw_m10 209 rfl) rfl
theorem q2461 : (Jvm.Cond.code ({ cls := "QueueDriveModel", name := "ringsOne", desc := "([II)I" } : Jvm.MethodName) prog_13_method_51_code (6 : Nat) (Option.some Jvm.ClassFile.FieldType.int)) ∈ lw_all := lw_g (lw_at lw_m10 210 rfl) rfl
theorem q2463 : (Jvm.Cond.instanceMethod ({ cls := "QueueDriveModel", name := "ticks", desc := "(I)I" } : Jvm.MethodName)) ∈ lw_all := lw_g (lw_at lw_m10 212 rfl) rfl
theorem q2464 : (Jvm.Cond.selects "QueueDriveModel" ({ cls := "QueueDriveModel", name := "ticks", desc := "(I)I" } : Jvm.MethodName) ({ cls := "QueueDriveModel", name := "ticks", desc := "(I)I" } : Jvm.MethodName)) ∈ lw_all := lw_g (lw_at lw_m10 213 rfl) rfl
theorem q2465 : (Jvm.Cond.code ({ cls := "QueueDriveModel", name := "ticks", desc := "(I)I" } : Jvm.MethodName) prog_13_method_74_code (2 : Nat) (Option.some Jvm.ClassFile.FieldType.int)) ∈ lw_all := lw_g (lw_at lw_m10 214 rfl) rfl
theorem q2466 : (Jvm.Cond.constantLong "QueueDriveModel" (368 : Nat) (60 : Int64)) ∈ lw_all := lw_g (lw_at lw_m10 215 rfl) rfl
theorem q2467 : (Jvm.Cond.methodLink "QueueDriveModel" (370 : Nat) ({ cls := "QueueDriveModel", name := "ticksGo", desc := "([II)V" } : Jvm.MethodName)) ∈ lw_all := lw_g (lw_at lw_m10 216 rfl) rfl
theorem q2468 : (Jvm.Cond.privateMethod ({ cls := "QueueDriveModel", name := "ticksGo", desc := "([II)V" } : Jvm.MethodName)) ∈ lw_tbl := lw_at lw_m10 217 rfl
theorem q2469 : (Jvm.Cond.instanceMethod ({ cls := "QueueDriveModel", name := "ticksGo", desc := "([II)V" } : Jvm.MethodName)) ∈ lw_all := lw_g (lw_at lw_m10 218 rfl) rfl
theorem q2470 : (Jvm.Cond.code ({ cls := "QueueDriveModel", name := "ticksGo", desc := "([II)V" } : Jvm.MethodName) prog_13_method_71_code (4 : Nat) (Option.none : Option Jvm.ClassFile.FieldType)) ∈ lw_all := lw_g (lw_at lw_m10 219 rfl) rfl
theorem q2471 : (Jvm.Cond.methodLink "QueueDriveModel" (352 : Nat) ({ cls := "QueueDriveModel", name := "tickGoes", desc := "([I)V" } : Jvm.MethodName)) ∈ lw_all := lw_g (lw_at lw_m10 220 rfl) rfl
theorem q2472 : (Jvm.Cond.privateMethod ({ cls := "QueueDriveModel", name := "tickGoes", desc := "([I)V" } : Jvm.MethodName)) ∈ lw_tbl := lw_at lw_m10 221 rfl
theorem q2473 : (Jvm.Cond.instanceMethod ({ cls := "QueueDriveModel", name := "tickGoes", desc := "([I)V" } : Jvm.MethodName)) ∈ lw_all := lw_g (lw_at lw_m10 222 rfl) rfl
theorem q2474 : (Jvm.Cond.code ({ cls := "QueueDriveModel", name := "tickGoes", desc := "([I)V" } : Jvm.MethodName) prog_13_method_67_code (4 : Nat) (Option.none : Option Jvm.ClassFile.FieldType)) ∈ lw_all := lw_g (lw_at lw_m10 223 rfl) rfl
theorem q2475 : (Jvm.Cond.methodLink "QueueDriveModel" (325 : Nat) ({ cls := "QueueDriveModel", name := "ends", desc := "([II)V" } : Jvm.MethodName)) ∈ lw_all := lw_g (lw_at lw_m10 224 rfl) rfl
theorem q2476 : (Jvm.Cond.privateMethod ({ cls := "QueueDriveModel", name := "ends", desc := "([II)V" } : Jvm.MethodName)) ∈ lw_tbl := lw_at lw_m10 225 rfl
theorem q2477 : (Jvm.Cond.instanceMethod ({ cls := "QueueDriveModel", name := "ends", desc := "([II)V" } : Jvm.MethodName)) ∈ lw_all := lw_g (lw_at lw_m10 226 rfl) rfl
theorem q2478 : (Jvm.Cond.code ({ cls := "QueueDriveModel", name := "ends", desc := "([II)V" } : Jvm.MethodName) prog_13_method_64_code (10 : Nat) (Option.none : Option Jvm.ClassFile.FieldType)) ∈ lw_all := lw_g (lw_at lw_m10 227 rfl) rfl
theorem q2479 : (Jvm.Cond.methodLink "QueueDriveModel" (287 : Nat) ({ cls := "QueueDriveModel", name := "comesOut", desc := "([IIIII)V" } : Jvm.MethodName)) ∈ lw_all := lw_g (lw_at lw_m10 228 rfl) rfl
theorem q2480 : (Jvm.Cond.static ({ cls := "QueueDriveModel", name := "comesOut", desc := "([IIIII)V" } : Jvm.MethodName)) ∈ lw_all := lw_g (lw_at lw_m10 229 rfl) rfl
theorem q2481 : (Jvm.Cond.code ({ cls := "QueueDriveModel", name := "comesOut", desc := "([IIIII)V" } : Jvm.MethodName) prog_13_method_47_code (6 : Nat) (Option.none : Option Jvm.ClassFile.FieldType)) ∈ lw_all := lw_g (lw_at lw_m10 230 rfl) rfl
theorem q2482 : (Jvm.Cond.methodLink "QueueDriveModel" (291 : Nat) ({ cls := "QueueDriveModel", name := "runGoes", desc := "([II)V" } : Jvm.MethodName)) ∈ lw_all := lw_g (lw_at lw_m10 231 rfl) rfl
theorem q2483 : (Jvm.Cond.static ({ cls := "QueueDriveModel", name := "runGoes", desc := "([II)V" } : Jvm.MethodName)) ∈ lw_all := lw_g (lw_at lw_m10 232 rfl) rfl
theorem q2484 : (Jvm.Cond.code ({ cls := "QueueDriveModel", name := "runGoes", desc := "([II)V" } : Jvm.MethodName) prog_13_method_48_code (3 : Nat) (Option.none : Option Jvm.ClassFile.FieldType)) ∈ lw_all := lw_g (lw_at lw_m10 233 rfl) rfl
theorem q2485 : (Jvm.Cond.methodLink "QueueDriveModel" (328 : Nat) ({ cls := "QueueDriveModel", name := "posts", desc := "([I)V" } : Jvm.MethodName)) ∈ lw_all := lw_g (lw_at lw_m10 234 rfl) rfl
theorem q2486 : (Jvm.Cond.privateMethod ({ cls := "QueueDriveModel", name := "posts", desc := "([I)V" } : Jvm.MethodName)) ∈ lw_tbl := lw_at lw_m10 235 rfl
theorem q2487 : (Jvm.Cond.instanceMethod ({ cls := "QueueDriveModel", name := "posts", desc := "([I)V" } : Jvm.MethodName)) ∈ lw_all := lw_g (lw_at lw_m10 236 rfl) rfl
theorem q2488 : (Jvm.Cond.code ({ cls := "QueueDriveModel", name := "posts", desc := "([I)V" } : Jvm.MethodName) prog_13_method_66_code (7 : Nat) (Option.none : Option Jvm.ClassFile.FieldType)) ∈ lw_all := lw_g (lw_at lw_m10 237 rfl) rfl
theorem q2489 : (Jvm.Cond.methodLink "QueueDriveModel" (319 : Nat) ({ cls := "QueueDriveModel", name := "outGoes", desc := "([II)V" } : Jvm.MethodName)) ∈ lw_all := lw_g (lw_at lw_m10 238 rfl) rfl
theorem q2490 : (Jvm.Cond.static ({ cls := "QueueDriveModel", name := "outGoes", desc := "([II)V" } : Jvm.MethodName)) ∈ lw_all := lw_g (lw_at lw_m10 239 rfl) rfl
theorem q2491 : (Jvm.Cond.code ({ cls := "QueueDriveModel", name := "outGoes", desc := "([II)V" } : Jvm.MethodName) prog_13_method_49_code (3 : Nat) (Option.none : Option Jvm.ClassFile.FieldType)) ∈ lw_all := lw_g (lw_at lw_m11 0 rfl) rfl
theorem q2492 : (Jvm.Cond.methodLink "QueueDriveModel" (332 : Nat) ({ cls := "QueueDriveModel", name := "fetchedAll", desc := "([I)I" } : Jvm.MethodName)) ∈ lw_all := lw_g (lw_at lw_m11 1 rfl) rfl
theorem q2493 : (Jvm.Cond.static ({ cls := "QueueDriveModel", name := "fetchedAll", desc := "([I)I" } : Jvm.MethodName)) ∈ lw_all := lw_g (lw_at lw_m11 2 rfl) rfl
theorem q2494 : (Jvm.Cond.code ({ cls := "QueueDriveModel", name := "fetchedAll", desc := "([I)I" } : Jvm.MethodName) prog_13_method_65_code (3 : Nat) (Option.some Jvm.ClassFile.FieldType.int)) ∈ lw_all := lw_g (lw_at lw_m11 3 rfl) rfl
theorem q2495 : (Jvm.Cond.methodLink "QueueDriveModel" (335 : Nat) ({ cls := "QueueDriveModel", name := "isAnyWork", desc := "([I)Z" } : Jvm.MethodName)) ∈ lw_all := lw_g (lw_at lw_m11 4 rfl) rfl
theorem q2496 : (Jvm.Cond.privateMethod ({ cls := "QueueDriveModel", name := "isAnyWork", desc := "([I)Z" } : Jvm.MethodName)) ∈ lw_tbl := lw_at lw_m11 5 rfl
theorem q2497 : (Jvm.Cond.instanceMethod ({ cls := "QueueDriveModel", name := "isAnyWork", desc := "([I)Z" } : Jvm.MethodName)) ∈ lw_all := lw_g (lw_at lw_m11 6 rfl) rfl
theorem q2498 : (Jvm.Cond.code ({ cls := "QueueDriveModel", name := "isAnyWork", desc := "([I)Z" } : Jvm.MethodName) prog_13_method_58_code (4 : Nat) (Option.some Jvm.ClassFile.FieldType.boolean)) ∈ lw_all := lw_g (lw_at lw_m11 7 rfl) rfl
theorem q2499 : (Jvm.Cond.methodLink "QueueDriveModel" (294 : Nat) ({ cls := "QueueDriveModel", name := "hasWork", desc := "([II)Z" } : Jvm.MethodName)) ∈ lw_all := lw_g (lw_at lw_m11 8 rfl) rfl
theorem q2500 : (Jvm.Cond.static ({ cls := "QueueDriveModel", name := "hasWork", desc := "([II)Z" } : Jvm.MethodName)) ∈ lw_all := lw_g (lw_at lw_m11 9 rfl) rfl
theorem q2501 : (Jvm.Cond.code ({ cls := "QueueDriveModel", name := "hasWork", desc := "([II)Z" } : Jvm.MethodName) prog_13_method_55_code (2 : Nat) (Option.some Jvm.ClassFile.FieldType.boolean)) ∈ lw_all := lw_g (lw_at lw_m11 10 rfl) rfl
theorem q2502 : (Jvm.Cond.methodLink "QueueDriveModel" (339 : Nat) ({ cls := "QueueDriveModel", name := "fetches", desc := "([I)V" } : Jvm.MethodName)) ∈ lw_all := lw_g (lw_at lw_m11 11 rfl) rfl
theorem q2503 : (Jvm.Cond.privateMethod ({ cls := "QueueDriveModel", name := "fetches", desc := "([I)V" } : Jvm.MethodName)) ∈ lw_tbl := lw_at lw_m11 12 rfl
theorem q2504 : (Jvm.Cond.instanceMethod ({ cls := "QueueDriveModel", name := "fetches", desc := "([I)V" } : Jvm.MethodName)) ∈ lw_all := lw_g (lw_at lw_m11 13 rfl) rfl
theorem q2505 : (Jvm.Cond.code ({ cls := "QueueDriveModel", name := "fetches", desc := "([I)V" } : Jvm.MethodName) prog_13_method_63_code (10 : Nat) (Option.none : Option Jvm.ClassFile.FieldType)) ∈ lw_all := lw_g (lw_at lw_m11 14 rfl) rfl
theorem q2506 : (Jvm.Cond.methodLink "QueueDriveModel" (306 : Nat) ({ cls := "QueueDriveModel", name := "chosen", desc := "([I)I" } : Jvm.MethodName)) ∈ lw_all := lw_g (lw_at lw_m11 15 rfl) rfl
theorem q2507 : (Jvm.Cond.privateMethod ({ cls := "QueueDriveModel", name := "chosen", desc := "([I)I" } : Jvm.MethodName)) ∈ lw_tbl := lw_at lw_m11 16 rfl
theorem q2508 : (Jvm.Cond.instanceMethod ({ cls := "QueueDriveModel", name := "chosen", desc := "([I)I" } : Jvm.MethodName)) ∈ lw_all := lw_g (lw_at lw_m11 17 rfl) rfl
theorem q2509 : (Jvm.Cond.code ({ cls := "QueueDriveModel", name := "chosen", desc := "([I)I" } : Jvm.MethodName) prog_13_method_59_code (5 : Nat) (Option.some Jvm.ClassFile.FieldType.int)) ∈ lw_all := lw_g (lw_at lw_m11 18 rfl) rfl
theorem q2510 : (Jvm.Cond.methodLink "QueueDriveModel" (297 : Nat) ({ cls := "QueueDriveModel", name := "behindLast", desc := "([II)I" } : Jvm.MethodName)) ∈ lw_all := lw_g (lw_at lw_m11 19 rfl) rfl
theorem q2511 : (Jvm.Cond.privateMethod ({ cls := "QueueDriveModel", name := "behindLast", desc := "([II)I" } : Jvm.MethodName)) ∈ lw_tbl := lw_at lw_m11 20 rfl
theorem q2512 : (Jvm.Cond.instanceMethod ({ cls := "QueueDriveModel", name := "behindLast", desc := "([II)I" } : Jvm.MethodName)) ∈ lw_all := lw_g (lw_at lw_m11 21 rfl) rfl
theorem q2513 : (Jvm.Cond.code ({ cls := "QueueDriveModel", name := "behindLast", desc := "([II)I" } : Jvm.MethodName) prog_13_method_56_code (5 : Nat) (Option.some Jvm.ClassFile.FieldType.int)) ∈ lw_all := lw_g (lw_at lw_m11 22 rfl) rfl
theorem q2514 : (Jvm.Cond.methodLink "QueueDriveModel" (300 : Nat) ({ cls := "QueueDriveModel", name := "creditClass", desc := "([I)I" } : Jvm.MethodName)) ∈ lw_all := lw_g (lw_at lw_m11 23 rfl) rfl
theorem q2515 : (Jvm.Cond.privateMethod ({ cls := "QueueDriveModel", name := "creditClass", desc := "([I)I" } : Jvm.MethodName)) ∈ lw_tbl := lw_at lw_m11 24 rfl
theorem q2516 : (Jvm.Cond.instanceMethod ({ cls := "QueueDriveModel", name := "creditClass", desc := "([I)I" } : Jvm.MethodName)) ∈ lw_all := lw_g (lw_at lw_m11 25 rfl) rfl
theorem q2517 : (Jvm.Cond.code ({ cls := "QueueDriveModel", name := "creditClass", desc := "([I)I" } : Jvm.MethodName) prog_13_method_57_code (3 : Nat) (Option.some Jvm.ClassFile.FieldType.int)) ∈ lw_all := lw_g (lw_at lw_m11 26 rfl) rfl
theorem q2518 : (Jvm.Cond.methodLink "QueueDriveModel" (309 : Nat) ({ cls := "QueueDriveModel", name := "fetchedOf", desc := "([II)I" } : Jvm.MethodName)) ∈ lw_all := lw_g (lw_at lw_m11 27 rfl) rfl
theorem q2519 : (Jvm.Cond.privateMethod ({ cls := "QueueDriveModel", name := "fetchedOf", desc := "([II)I" } : Jvm.MethodName)) ∈ lw_tbl := lw_at lw_m11 28 rfl
theorem q2520 : (Jvm.Cond.instanceMethod ({ cls := "QueueDriveModel", name := "fetchedOf", desc := "([II)I" } : Jvm.MethodName)) ∈ lw_all := lw_g (lw_at lw_m11 29 rfl) rfl
theorem q2521 : (Jvm.Cond.code ({ cls := "QueueDriveModel", name := "fetchedOf", desc := "([II)I" } : Jvm.MethodName) prog_13_method_61_code (4 : Nat) (Option.some Jvm.ClassFile.FieldType.int)) ∈ lw_all := lw_g (lw_at lw_m11 30 rfl) rfl
theorem q2522 : (Jvm.Cond.methodLink "QueueDriveModel" (312 : Nat) ({ cls := "QueueDriveModel", name := "timeOf", desc := "([III)I" } : Jvm.MethodName)) ∈ lw_all := lw_g (lw_at lw_m11 31 rfl) rfl
theorem q2523 : (Jvm.Cond.privateMethod ({ cls := "QueueDriveModel", name := "timeOf", desc := "([III)I" } : Jvm.MethodName)) ∈ lw_tbl := lw_at lw_m11 32 rfl
theorem q2524 : (Jvm.Cond.instanceMethod ({ cls := "QueueDriveModel", name := "timeOf", desc := "([III)I" } : Jvm.MethodName)) ∈ lw_all := lw_g (lw_at lw_m11 33 rfl) rfl
theorem q2525 : (Jvm.Cond.code ({ cls := "QueueDriveModel", name := "timeOf", desc := "([III)I" } : Jvm.MethodName) prog_13_method_60_code (4 : Nat) (Option.some Jvm.ClassFile.FieldType.int)) ∈ lw_all := lw_g (lw_at lw_m11 34 rfl) rfl
theorem q2526 : (Jvm.Cond.methodLink "QueueDriveModel" (303 : Nat) ({ cls := "QueueDriveModel", name := "ruled", desc := "()I" } : Jvm.MethodName)) ∈ lw_all := lw_g (lw_at lw_m11 35 rfl) rfl
theorem q2527 : (Jvm.Cond.privateMethod ({ cls := "QueueDriveModel", name := "ruled", desc := "()I" } : Jvm.MethodName)) ∈ lw_tbl := lw_at lw_m11 36 rfl
theorem q2528 : (Jvm.Cond.instanceMethod ({ cls := "QueueDriveModel", name := "ruled", desc := "()I" } : Jvm.MethodName)) ∈ lw_all := lw_g (lw_at lw_m11 37 rfl) rfl
theorem q2529 : (Jvm.Cond.code ({ cls := "QueueDriveModel", name := "ruled", desc := "()I" } : Jvm.MethodName) prog_13_method_23_code (4 : Nat) (Option.some Jvm.ClassFile.FieldType.int)) ∈ lw_all := lw_g (lw_at lw_m11 38 rfl) rfl
theorem q2530 : (Jvm.Cond.methodLink "QueueDriveModel" (121 : Nat) ({ cls := "QueueDriveModel", name := "worked", desc := "(III)I" } : Jvm.MethodName)) ∈ lw_all := lw_g (lw_at lw_m11 39 rfl) rfl
theorem q2531 : (Jvm.Cond.static ({ cls := "QueueDriveModel", name := "worked", desc := "(III)I" } : Jvm.MethodName)) ∈ lw_all := lw_g (lw_at lw_m11 40 rfl) rfl
theorem q2532 : (Jvm.Cond.code ({ cls := "QueueDriveModel", name := "worked", desc := "(III)I" } : Jvm.MethodName) prog_13_method_22_code (3 : Nat) (Option.some Jvm.ClassFile.FieldType.int)) ∈ lw_all := lw_g (lw_at lw_m11 41 rfl) rfl
theorem q2533 : (Jvm.Cond.methodLink "QueueDriveModel" (315 : Nat) ({ cls := "QueueDriveModel", name := "lays", desc := "([III)V" } : Jvm.MethodName)) ∈ lw_all := lw_g (lw_at lw_m11 42 rfl) rfl
theorem q2534 : (Jvm.Cond.static ({ cls := "QueueDriveModel", name := "lays", desc := "([III)V" } : Jvm.MethodName)) ∈ lw_all := lw_g (lw_at lw_m11 43 rfl) rfl
theorem q2535 : (Jvm.Cond.code ({ cls := "QueueDriveModel", name := "lays", desc := "([III)V" } : Jvm.MethodName) prog_13_method_62_code (4 : Nat) (Option.none : Option Jvm.ClassFile.FieldType)) ∈ lw_all := lw_g (lw_at lw_m11 44 rfl) rfl
theorem q2536 : (Jvm.Cond.methodLink "QueueDriveModel" (345 : Nat) ({ cls := "QueueDriveModel", name := "enters", desc := "(J)V" } : Jvm.MethodName)) ∈ lw_all := lw_g (lw_at lw_m11 45 rfl) rfl
theorem q2537 : (Jvm.Cond.privateMethod ({ cls := "QueueDriveModel", name := "enters", desc := "(J)V" } : Jvm.MethodName)) ∈ lw_tbl := lw_at lw_m11 46 rfl
theorem q2538 : (Jvm.Cond.instanceMethod ({ cls := "QueueDriveModel", name := "enters", desc := "(J)V" } : Jvm.MethodName)) ∈ lw_all := lw_g (lw_at lw_m11 47 rfl) rfl
theorem q2539 : (Jvm.Cond.code ({ cls := "QueueDriveModel", name := "enters", desc := "(J)V" } : Jvm.MethodName) prog_13_method_5_code (3 : Nat) (Option.none : Option Jvm.ClassFile.FieldType)) ∈ lw_all := lw_g (lw_at lw_m11 48 rfl) rfl
theorem q2541 : (Jvm.Cond.instanceMethod ({ cls := "QueueDriveModel", name := "takes", desc := "(I)I" } : Jvm.MethodName)) ∈ lw_all := lw_g (lw_at lw_m11 50 rfl) rfl
theorem q2542 : (Jvm.Cond.selects "QueueDriveModel" ({ cls := "QueueDriveModel", name := "takes", desc := "(I)I" } : Jvm.MethodName) ({ cls := "QueueDriveModel", name := "takes", desc := "(I)I" } : Jvm.MethodName)) ∈ lw_all := lw_g (lw_at lw_m11 51 rfl) rfl
theorem q2543 : (Jvm.Cond.code ({ cls := "QueueDriveModel", name := "takes", desc := "(I)I" } : Jvm.MethodName) prog_13_method_75_code (3 : Nat) (Option.some Jvm.ClassFile.FieldType.int)) ∈ lw_all := lw_g (lw_at lw_m11 52 rfl) rfl
theorem q2544 : (Jvm.Cond.methodLink "QueueDriveModel" (373 : Nat) ({ cls := "QueueDriveModel", name := "takesOne", desc := "([II)I" } : Jvm.MethodName)) ∈ lw_all := lw_g (lw_at lw_m11 53 rfl) rfl
theorem q2545 : (Jvm.Cond.privateMethod ({ cls := "QueueDriveModel", name := "takesOne", desc := "([II)I" } : Jvm.MethodName)) ∈ lw_tbl := lw_at lw_m11 54 rfl
theorem q2546 : (Jvm.Cond.instanceMethod ({ cls := "QueueDriveModel", name := "takesOne", desc := "([II)I" } : Jvm.MethodName)) ∈ lw_all := lw_g (lw_at lw_m11 55 rfl) rfl
theorem q2547 : (Jvm.Cond.code ({ cls := "QueueDriveModel", name := "takesOne", desc := "([II)I" } : Jvm.MethodName) prog_13_method_52_code (4 : Nat) (Option.some Jvm.ClassFile.FieldType.int)) ∈ lw_all := lw_g (lw_at lw_m11 56 rfl) rfl
theorem q2549 : (Jvm.Cond.instanceMethod ({ cls := "QueueDriveModel", name := "calls", desc := "(II)I" } : Jvm.MethodName)) ∈ lw_all := lw_g (lw_at lw_m11 58 rfl) rfl
theorem q2550 : (Jvm.Cond.selects "QueueDriveModel" ({ cls := "QueueDriveModel", name := "calls", desc := "(II)I" } : Jvm.MethodName) ({ cls := "QueueDriveModel", name := "calls", desc := "(II)I" } : Jvm.MethodName)) ∈ lw_all := lw_g (lw_at lw_m11 59 rfl) rfl
theorem q2551 : (Jvm.Cond.code ({ cls := "QueueDriveModel", name := "calls", desc := "(II)I" } : Jvm.MethodName) prog_13_method_76_code (3 : Nat) (Option.some Jvm.ClassFile.FieldType.int)) ∈ lw_all := lw_g (lw_at lw_m11 60 rfl) rfl
theorem q2552 : (Jvm.Cond.methodLink "QueueDriveModel" (376 : Nat) ({ cls := "QueueDriveModel", name := "callsOne", desc := "([III)I" } : Jvm.MethodName)) ∈ lw_all := lw_g (lw_at lw_m11 61 rfl) rfl
theorem q2553 : (Jvm.Cond.privateMethod ({ cls := "QueueDriveModel", name := "callsOne", desc := "([III)I" } : Jvm.MethodName)) ∈ lw_tbl := lw_at lw_m11 62 rfl
theorem q2554 : (Jvm.Cond.instanceMethod ({ cls := "QueueDriveModel", name := "callsOne", desc := "([III)I" } : Jvm.MethodName)) ∈ lw_all := lw_g (lw_at lw_m11 63 rfl) rfl
theorem q2555 : (Jvm.Cond.code ({ cls := "QueueDriveModel", name := "callsOne", desc := "([III)I" } : Jvm.MethodName) prog_13_method_54_code (6 : Nat) (Option.some Jvm.ClassFile.FieldType.int)) ∈ lw_all := lw_g (lw_at lw_m11 64 rfl) rfl
theorem q2556 : (Jvm.Cond.methodLink "QueueDriveModel" (284 : Nat) ({ cls := "QueueDriveModel", name := "callsAnswer", desc := "([III)I" } : Jvm.MethodName)) ∈ lw_all := lw_g (lw_at lw_m11 65 rfl) rfl
theorem q2557 : (Jvm.Cond.privateMethod ({ cls := "QueueDriveModel", name := "callsAnswer", desc := "([III)I" } : Jvm.MethodName)) ∈ lw_tbl := lw_at lw_m11 66 rfl
theorem q2558 : (Jvm.Cond.instanceMethod ({ cls := "QueueDriveModel", name := "callsAnswer", desc := "([III)I" } : Jvm.MethodName)) ∈ lw_all := lw_g (lw_at lw_m11 67 rfl) rfl
theorem q2559 : (Jvm.Cond.code ({ cls := "QueueDriveModel", name := "callsAnswer", desc := "([III)I" } : Jvm.MethodName) prog_13_method_53_code (6 : Nat) (Option.some Jvm.ClassFile.FieldType.int)) ∈ lw_all := lw_g (lw_at lw_m11 68 rfl) rfl
theorem q2560 : (Jvm.Cond.constantLong "QueueDriveModel" (282 : Nat) (15 : Int64)) ∈ lw_all := lw_g (lw_at lw_m11 69 rfl) rfl
theorem q2562 : (Jvm.Cond.instanceMethod ({ cls := "QueueDriveModel", name := "resets", desc := "()I" } : Jvm.MethodName)) ∈ lw_all := lw_g (lw_at lw_m11 71 rfl) rfl
theorem q2563 : (Jvm.Cond.selects "QueueDriveModel" ({ cls := "QueueDriveModel", name := "resets", desc := "()I" } : Jvm.MethodName) ({ cls := "QueueDriveModel", name := "resets", desc := "()I" } : Jvm.MethodName)) ∈ lw_all := lw_g (lw_at lw_m11 72 rfl) rfl
theorem q2564 : (Jvm.Cond.code ({ cls := "QueueDriveModel", name := "resets", desc := "()I" } : Jvm.MethodName) prog_13_method_77_code (1 : Nat) (Option.some Jvm.ClassFile.FieldType.int)) ∈ lw_all := lw_g (lw_at lw_m11 73 rfl) rfl
theorem q2565 : (Jvm.Cond.methodLink "QueueDriveModel" (379 : Nat) ({ cls := "QueueDriveModel", name := "resetsAll", desc := "([IZ)I" } : Jvm.MethodName)) ∈ lw_all := lw_g (lw_at lw_m11 74 rfl) rfl
theorem q2566 : (Jvm.Cond.privateMethod ({ cls := "QueueDriveModel", name := "resetsAll", desc := "([IZ)I" } : Jvm.MethodName)) ∈ lw_tbl := lw_at lw_m11 75 rfl
theorem q2567 : (Jvm.Cond.instanceMethod ({ cls := "QueueDriveModel", name := "resetsAll", desc := "([IZ)I" } : Jvm.MethodName)) ∈ lw_all := lw_g (lw_at lw_m11 76 rfl) rfl
theorem q2568 : (Jvm.Cond.code ({ cls := "QueueDriveModel", name := "resetsAll", desc := "([IZ)I" } : Jvm.MethodName) prog_13_method_68_code (8 : Nat) (Option.some Jvm.ClassFile.FieldType.int)) ∈ lw_all := lw_g (lw_at lw_m11 77 rfl) rfl
theorem q2570 : (Jvm.Cond.instanceMethod ({ cls := "QueueDriveModel", name := "weighs", desc := "(II)I" } : Jvm.MethodName)) ∈ lw_all := lw_g (lw_at lw_m11 79 rfl) rfl
theorem q2571 : (Jvm.Cond.selects "QueueDriveModel" ({ cls := "QueueDriveModel", name := "weighs", desc := "(II)I" } : Jvm.MethodName) ({ cls := "QueueDriveModel", name := "weighs", desc := "(II)I" } : Jvm.MethodName)) ∈ lw_all := lw_g (lw_at lw_m11 80 rfl) rfl
theorem q2572 : (Jvm.Cond.code ({ cls := "QueueDriveModel", name := "weighs", desc := "(II)I" } : Jvm.MethodName) prog_13_method_78_code (3 : Nat) (Option.some Jvm.ClassFile.FieldType.int)) ∈ lw_all := lw_g (lw_at lw_m11 81 rfl) rfl
theorem q2573 : (Jvm.Cond.methodLink "QueueDriveModel" (383 : Nat) ({ cls := "QueueDriveModel", name := "weighsOne", desc := "([III)I" } : Jvm.MethodName)) ∈ lw_all := lw_g (lw_at lw_m11 82 rfl) rfl
theorem q2574 : (Jvm.Cond.static ({ cls := "QueueDriveModel", name := "weighsOne", desc := "([III)I" } : Jvm.MethodName)) ∈ lw_all := lw_g (lw_at lw_m11 83 rfl) rfl
theorem q2575 : (Jvm.Cond.code ({ cls := "QueueDriveModel", name := "weighsOne", desc := "([III)I" } : Jvm.MethodName) prog_13_method_69_code (4 : Nat) (Option.some Jvm.ClassFile.FieldType.int)) ∈ lw_all := lw_g (lw_at lw_m11 84 rfl) rfl
theorem q2577 : (Jvm.Cond.instanceMethod ({ cls := "QueueDriveModel", name := "depth", desc := "(I)I" } : Jvm.MethodName)) ∈ lw_all := lw_g (lw_at lw_m11 86 rfl) rfl
theorem q2578 : (Jvm.Cond.selects "QueueDriveModel" ({ cls := "QueueDriveModel", name := "depth", desc := "(I)I" } : Jvm.MethodName) ({ cls := "QueueDriveModel", name := "depth", desc := "(I)I" } : Jvm.MethodName)) ∈ lw_all := lw_g (lw_at lw_m11 87 rfl) rfl
theorem q2579 : (Jvm.Cond.code ({ cls := "QueueDriveModel", name := "depth", desc := "(I)I" } : Jvm.MethodName) prog_13_method_79_code (2 : Nat) (Option.some Jvm.ClassFile.FieldType.int)) ∈ lw_all := lw_g (lw_at lw_m11 88 rfl) rfl
theorem q2580 : (Jvm.Cond.methodLink "QueueDriveModel" (386 : Nat) ({ cls := "QueueDriveModel", name := "depthIs", desc := "([II)I" } : Jvm.MethodName)) ∈ lw_all := lw_g (lw_at lw_m11 89 rfl) rfl
theorem q2581 : (Jvm.Cond.static ({ cls := "QueueDriveModel", name := "depthIs", desc := "([II)I" } : Jvm.MethodName)) ∈ lw_all := lw_g (lw_at lw_m11 90 rfl) rfl
theorem q2582 : (Jvm.Cond.code ({ cls := "QueueDriveModel", name := "depthIs", desc := "([II)I" } : Jvm.MethodName) prog_13_method_70_code (3 : Nat) (Option.some Jvm.ClassFile.FieldType.int)) ∈ lw_all := lw_g (lw_at lw_m11 91 rfl) rfl
theorem q2584 : (Jvm.Cond.instanceMethod ({ cls := "QueueDriveModel", name := "day", desc := "()I" } : Jvm.MethodName)) ∈ lw_all := lw_g (lw_at lw_m11 93 rfl) rfl
theorem q2585 : (Jvm.Cond.selects "QueueDriveModel" ({ cls := "QueueDriveModel", name := "day", desc := "()I" } : Jvm.MethodName) ({ cls := "QueueDriveModel", name := "day", desc := "()I" } : Jvm.MethodName)) ∈ lw_all := lw_g (lw_at lw_m11 94 rfl) rfl
theorem q2586 : (Jvm.Cond.code ({ cls := "QueueDriveModel", name := "day", desc := "()I" } : Jvm.MethodName) prog_13_method_82_code (2 : Nat) (Option.some Jvm.ClassFile.FieldType.int)) ∈ lw_all := lw_g (lw_at lw_m11 95 rfl) rfl
theorem q2587 : (Jvm.Cond.methodLink "QueueDriveModel" (397 : Nat) ({ cls := "QueueDriveModel", name := "readsAct", desc := "()Z" } : Jvm.MethodName)) ∈ lw_all := lw_g (lw_at lw_m11 96 rfl) rfl
theorem q2588 : (Jvm.Cond.privateMethod ({ cls := "QueueDriveModel", name := "readsAct", desc := "()Z" } : Jvm.MethodName)) ∈ lw_tbl := lw_at lw_m11 97 rfl
theorem q2589 : (Jvm.Cond.instanceMethod ({ cls := "QueueDriveModel", name := "readsAct", desc := "()Z" } : Jvm.MethodName)) ∈ lw_all := lw_g (lw_at lw_m11 98 rfl) rfl
theorem q2590 : (Jvm.Cond.code ({ cls := "QueueDriveModel", name := "readsAct", desc := "()Z" } : Jvm.MethodName) prog_13_method_80_code (2 : Nat) (Option.some Jvm.ClassFile.FieldType.boolean)) ∈ lw_all := lw_g (lw_at lw_m11 99 rfl) rfl
theorem q2591 : (Jvm.Cond.stringRef "QueueDriveModel" (392 : Nat) "xrtkcp") ∈ lw_tbl := lw_at lw_m11 100 rfl
theorem q2592 : (Jvm.Cond.methodLink "QueueDriveModel" (394 : Nat) ({ cls := "QueueDriveModel", name := "two", desc := "()I" } : Jvm.MethodName)) ∈ lw_all := lw_g (lw_at lw_m11 101 rfl) rfl
theorem q2593 : (Jvm.Cond.privateMethod ({ cls := "QueueDriveModel", name := "two", desc := "()I" } : Jvm.MethodName)) ∈ lw_tbl := lw_at lw_m11 102 rfl
theorem q2594 : (Jvm.Cond.instanceMethod ({ cls := "QueueDriveModel", name := "two", desc := "()I" } : Jvm.MethodName)) ∈ lw_all := lw_g (lw_at lw_m11 103 rfl) rfl
theorem q2595 : (Jvm.Cond.code ({ cls := "QueueDriveModel", name := "two", desc := "()I" } : Jvm.MethodName) prog_13_method_13_code (3 : Nat) (Option.some Jvm.ClassFile.FieldType.int)) ∈ lw_all := lw_g (lw_at lw_m11 104 rfl) rfl
theorem q2596 : (Jvm.Cond.methodLink "QueueDriveModel" (400 : Nat) ({ cls := "QueueDriveModel", name := "does", desc := "(I)I" } : Jvm.MethodName)) ∈ lw_all := lw_g (lw_at lw_m11 105 rfl) rfl
theorem q2597 : (Jvm.Cond.privateMethod ({ cls := "QueueDriveModel", name := "does", desc := "(I)I" } : Jvm.MethodName)) ∈ lw_tbl := lw_at lw_m11 106 rfl
theorem q2598 : (Jvm.Cond.instanceMethod ({ cls := "QueueDriveModel", name := "does", desc := "(I)I" } : Jvm.MethodName)) ∈ lw_all := lw_g (lw_at lw_m11 107 rfl) rfl
theorem q2599 : (Jvm.Cond.code ({ cls := "QueueDriveModel", name := "does", desc := "(I)I" } : Jvm.MethodName) prog_13_method_81_code (3 : Nat) (Option.some Jvm.ClassFile.FieldType.int)) ∈ lw_all := lw_g (lw_at lw_m11 108 rfl) rfl
theorem q2601 : (Jvm.Cond.instanceMethod ({ cls := "QueueDriveModel", name := "waiting", desc := "(I)I" } : Jvm.MethodName)) ∈ lw_all := lw_g (lw_at lw_m11 110 rfl) rfl
theorem q2602 : (Jvm.Cond.selects "QueueDriveModel" ({ cls := "QueueDriveModel", name := "waiting", desc := "(I)I" } : Jvm.MethodName) ({ cls := "QueueDriveModel", name := "waiting", desc := "(I)I" } : Jvm.MethodName)) ∈ lw_all := lw_g (lw_at lw_m11 111 rfl) rfl
theorem q2603 : (Jvm.Cond.code ({ cls := "QueueDriveModel", name := "waiting", desc := "(I)I" } : Jvm.MethodName) prog_13_method_83_code (3 : Nat) (Option.some Jvm.ClassFile.FieldType.int)) ∈ lw_all := lw_g (lw_at lw_m11 112 rfl) rfl
theorem q2605 : (Jvm.Cond.instanceMethod ({ cls := "QueueDriveModel", name := "running", desc := "()I" } : Jvm.MethodName)) ∈ lw_all := lw_g (lw_at lw_m11 114 rfl) rfl
theorem q2606 : (Jvm.Cond.selects "QueueDriveModel" ({ cls := "QueueDriveModel", name := "running", desc := "()I" } : Jvm.MethodName) ({ cls := "QueueDriveModel", name := "running", desc := "()I" } : Jvm.MethodName)) ∈ lw_all := lw_g (lw_at lw_m11 115 rfl) rfl
theorem q2607 : (Jvm.Cond.code ({ cls := "QueueDriveModel", name := "running", desc := "()I" } : Jvm.MethodName) prog_13_method_84_code (3 : Nat) (Option.some Jvm.ClassFile.FieldType.int)) ∈ lw_all := lw_g (lw_at lw_m11 116 rfl) rfl
theorem q2609 : (Jvm.Cond.instanceMethod ({ cls := "QueueDriveModel", name := "outbox", desc := "()I" } : Jvm.MethodName)) ∈ lw_all := lw_g (lw_at lw_m11 118 rfl) rfl
theorem q2610 : (Jvm.Cond.selects "QueueDriveModel" ({ cls := "QueueDriveModel", name := "outbox", desc := "()I" } : Jvm.MethodName) ({ cls := "QueueDriveModel", name := "outbox", desc := "()I" } : Jvm.MethodName)) ∈ lw_all := lw_g (lw_at lw_m11 119 rfl) rfl
theorem q2611 : (Jvm.Cond.code ({ cls := "QueueDriveModel", name := "outbox", desc := "()I" } : Jvm.MethodName) prog_13_method_85_code (3 : Nat) (Option.some Jvm.ClassFile.FieldType.int)) ∈ lw_all := lw_g (lw_at lw_m11 120 rfl) rfl
theorem q2613 : (Jvm.Cond.instanceMethod ({ cls := "QueueDriveModel", name := "phases", desc := "(I)I" } : Jvm.MethodName)) ∈ lw_all := lw_g (lw_at lw_m11 122 rfl) rfl
theorem q2614 : (Jvm.Cond.selects "QueueDriveModel" ({ cls := "QueueDriveModel", name := "phases", desc := "(I)I" } : Jvm.MethodName) ({ cls := "QueueDriveModel", name := "phases", desc := "(I)I" } : Jvm.MethodName)) ∈ lw_all := lw_g (lw_at lw_m11 123 rfl) rfl
theorem q2615 : (Jvm.Cond.code ({ cls := "QueueDriveModel", name := "phases", desc := "(I)I" } : Jvm.MethodName) prog_13_method_87_code (5 : Nat) (Option.some Jvm.ClassFile.FieldType.int)) ∈ lw_all := lw_g (lw_at lw_m11 124 rfl) rfl
theorem q2616 : (Jvm.Cond.methodLink "QueueDriveModel" (403 : Nat) ({ cls := "QueueDriveModel", name := "phase", desc := "(II)I" } : Jvm.MethodName)) ∈ lw_all := lw_g (lw_at lw_m11 125 rfl) rfl
theorem q2617 : (Jvm.Cond.privateMethod ({ cls := "QueueDriveModel", name := "phase", desc := "(II)I" } : Jvm.MethodName)) ∈ lw_tbl := lw_at lw_m11 126 rfl
theorem q2618 : (Jvm.Cond.instanceMethod ({ cls := "QueueDriveModel", name := "phase", desc := "(II)I" } : Jvm.MethodName)) ∈ lw_all := lw_g (lw_at lw_m11 127 rfl) rfl
theorem q2619 : (Jvm.Cond.code ({ cls := "QueueDriveModel", name := "phase", desc := "(II)I" } : Jvm.MethodName) prog_13_method_86_code (3 : Nat) (Option.some Jvm.ClassFile.FieldType.int)) ∈ lw_all := lw_g (lw_at lw_m11 128 rfl) rfl
theorem q2621 : (Jvm.Cond.instanceMethod ({ cls := "QueueDriveModel", name := "room", desc := "(I)I" } : Jvm.MethodName)) ∈ lw_all := lw_g (lw_at lw_m11 130 rfl) rfl
theorem q2622 : (Jvm.Cond.selects "QueueDriveModel" ({ cls := "QueueDriveModel", name := "room", desc := "(I)I" } : Jvm.MethodName) ({ cls := "QueueDriveModel", name := "room", desc := "(I)I" } : Jvm.MethodName)) ∈ lw_all := lw_g (lw_at lw_m11 131 rfl) rfl
theorem q2623 : (Jvm.Cond.code ({ cls := "QueueDriveModel", name := "room", desc := "(I)I" } : Jvm.MethodName) prog_13_method_88_code (5 : Nat) (Option.some Jvm.ClassFile.FieldType.int)) ∈ lw_all := lw_g (lw_at lw_m11 132 rfl) rfl
theorem q2625 : (Jvm.Cond.instanceMethod ({ cls := "QueueDriveModel", name := "block", desc := "(I)I" } : Jvm.MethodName)) ∈ lw_all := lw_g (lw_at lw_m11 134 rfl) rfl
theorem q2626 : (Jvm.Cond.selects "QueueDriveModel" ({ cls := "QueueDriveModel", name := "block", desc := "(I)I" } : Jvm.MethodName) ({ cls := "QueueDriveModel", name := "block", desc := "(I)I" } : Jvm.MethodName)) ∈ lw_all := lw_g (lw_at lw_m11 135 rfl) rfl
theorem q2627 : (Jvm.Cond.code ({ cls := "QueueDriveModel", name := "block", desc := "(I)I" } : Jvm.MethodName) prog_13_method_90_code (5 : Nat) (Option.some Jvm.ClassFile.FieldType.int)) ∈ lw_all := lw_g (lw_at lw_m11 136 rfl) rfl
theorem q2628 : (Jvm.Cond.methodLink "QueueDriveModel" (406 : Nat) ({ cls := "QueueDriveModel", name := "isWrite", desc := "([III)Z" } : Jvm.MethodName)) ∈ lw_all := lw_g (lw_at lw_m11 137 rfl) rfl
theorem q2629 : (Jvm.Cond.static ({ cls := "QueueDriveModel", name := "isWrite", desc := "([III)Z" } : Jvm.MethodName)) ∈ lw_all := lw_g (lw_at lw_m11 138 rfl) rfl
theorem q2630 : (Jvm.Cond.code ({ cls := "QueueDriveModel", name := "isWrite", desc := "([III)Z" } : Jvm.MethodName) prog_13_method_89_code (3 : Nat) (Option.some Jvm.ClassFile.FieldType.boolean)) ∈ lw_all := lw_g (lw_at lw_m11 139 rfl) rfl
theorem q2632 : (Jvm.Cond.instanceMethod ({ cls := "QueueDriveModel", name := "next", desc := "()I" } : Jvm.MethodName)) ∈ lw_all := lw_g (lw_at lw_m11 141 rfl) rfl
theorem q2633 : (Jvm.Cond.selects "QueueDriveModel" ({ cls := "QueueDriveModel", name := "next", desc := "()I" } : Jvm.MethodName) ({ cls := "QueueDriveModel", name := "next", desc := "()I" } : Jvm.MethodName)) ∈ lw_all := lw_g (lw_at lw_m11 142 rfl) rfl
theorem q2634 : (Jvm.Cond.code ({ cls := "QueueDriveModel", name := "next", desc := "()I" } : Jvm.MethodName) prog_13_method_92_code (2 : Nat) (Option.some Jvm.ClassFile.FieldType.int)) ∈ lw_all := lw_g (lw_at lw_m11 143 rfl) rfl
theorem q2635 : (Jvm.Cond.methodLink "QueueDriveModel" (409 : Nat) ({ cls := "QueueDriveModel", name := "copies", desc := "()V" } : Jvm.MethodName)) ∈ lw_all := lw_g (lw_at lw_m11 144 rfl) rfl
theorem q2636 : (Jvm.Cond.privateMethod ({ cls := "QueueDriveModel", name := "copies", desc := "()V" } : Jvm.MethodName)) ∈ lw_tbl := lw_at lw_m11 145 rfl
theorem q2637 : (Jvm.Cond.instanceMethod ({ cls := "QueueDriveModel", name := "copies", desc := "()V" } : Jvm.MethodName)) ∈ lw_all := lw_g (lw_at lw_m11 146 rfl) rfl
theorem q2638 : (Jvm.Cond.code ({ cls := "QueueDriveModel", name := "copies", desc := "()V" } : Jvm.MethodName) prog_13_method_91_code (2 : Nat) (Option.none : Option Jvm.ClassFile.FieldType)) ∈ lw_all := lw_g (lw_at lw_m11 147 rfl) rfl
theorem q2640 : (Jvm.Cond.instanceMethod ({ cls := "QueueDriveModel", name := "deals", desc := "(I)I" } : Jvm.MethodName)) ∈ lw_all := lw_g (lw_at lw_m11 149 rfl) rfl
theorem q2641 : (Jvm.Cond.selects "QueueDriveModel" ({ cls := "QueueDriveModel", name := "deals", desc := "(I)I" } : Jvm.MethodName) ({ cls := "QueueDriveModel", name := "deals", desc := "(I)I" } : Jvm.MethodName)) ∈ lw_all := lw_g (lw_at lw_m11 150 rfl) rfl
theorem q2642 : (Jvm.Cond.code ({ cls := "QueueDriveModel", name := "deals", desc := "(I)I" } : Jvm.MethodName) prog_13_method_93_code (4 : Nat) (Option.some Jvm.ClassFile.FieldType.int)) ∈ lw_all := lw_g (lw_at lw_m11 151 rfl) rfl
theorem q2644 : (Jvm.Cond.instanceMethod ({ cls := "QueueDriveModel", name := "when", desc := "(II)I" } : Jvm.MethodName)) ∈ lw_all := lw_g (lw_at lw_m11 153 rfl) rfl
theorem q2645 : (Jvm.Cond.selects "QueueDriveModel" ({ cls := "QueueDriveModel", name := "when", desc := "(II)I" } : Jvm.MethodName) ({ cls := "QueueDriveModel", name := "when", desc := "(II)I" } : Jvm.MethodName)) ∈ lw_all := lw_g (lw_at lw_m11 154 rfl) rfl
theorem q2646 : (Jvm.Cond.code ({ cls := "QueueDriveModel", name := "when", desc := "(II)I" } : Jvm.MethodName) prog_13_method_94_code (6 : Nat) (Option.some Jvm.ClassFile.FieldType.int)) ∈ lw_all := lw_g (lw_at lw_m11 155 rfl) rfl
theorem q2648 : (Jvm.Cond.instanceMethod ({ cls := "QueueDriveModel", name := "drains", desc := "()I" } : Jvm.MethodName)) ∈ lw_all := lw_g (lw_at lw_m11 157 rfl) rfl
theorem q2649 : (Jvm.Cond.selects "QueueDriveModel" ({ cls := "QueueDriveModel", name := "drains", desc := "()I" } : Jvm.MethodName) ({ cls := "QueueDriveModel", name := "drains", desc := "()I" } : Jvm.MethodName)) ∈ lw_all := lw_g (lw_at lw_m11 158 rfl) rfl
theorem q2650 : (Jvm.Cond.code ({ cls := "QueueDriveModel", name := "drains", desc := "()I" } : Jvm.MethodName) prog_13_method_98_code (2 : Nat) (Option.some Jvm.ClassFile.FieldType.int)) ∈ lw_all := lw_g (lw_at lw_m11 159 rfl) rfl
theorem q2651 : (Jvm.Cond.methodLink "QueueDriveModel" (421 : Nat) ({ cls := "QueueDriveModel", name := "drainsOf", desc := "([I)I" } : Jvm.MethodName)) ∈ lw_all := lw_g (lw_at lw_m11 160 rfl) rfl
theorem q2652 : (Jvm.Cond.privateMethod ({ cls := "QueueDriveModel", name := "drainsOf", desc := "([I)I" } : Jvm.MethodName)) ∈ lw_tbl := lw_at lw_m11 161 rfl
theorem q2653 : (Jvm.Cond.instanceMethod ({ cls := "QueueDriveModel", name := "drainsOf", desc := "([I)I" } : Jvm.MethodName)) ∈ lw_all := lw_g (lw_at lw_m11 162 rfl) rfl
theorem q2654 : (Jvm.Cond.code ({ cls := "QueueDriveModel", name := "drainsOf", desc := "([I)I" } : Jvm.MethodName) prog_13_method_97_code (3 : Nat) (Option.some Jvm.ClassFile.FieldType.int)) ∈ lw_all := lw_g (lw_at lw_m11 163 rfl) rfl
theorem q2655 : (Jvm.Cond.methodLink "QueueDriveModel" (415 : Nat) ({ cls := "QueueDriveModel", name := "isDrained", desc := "([I)Z" } : Jvm.MethodName)) ∈ lw_all := lw_g (lw_at lw_m11 164 rfl) rfl
theorem q2656 : (Jvm.Cond.privateMethod ({ cls := "QueueDriveModel", name := "isDrained", desc := "([I)Z" } : Jvm.MethodName)) ∈ lw_tbl := lw_at lw_m11 165 rfl
theorem q2657 : (Jvm.Cond.instanceMethod ({ cls := "QueueDriveModel", name := "isDrained", desc := "([I)Z" } : Jvm.MethodName)) ∈ lw_all := lw_g (lw_at lw_m11 166 rfl) rfl
theorem q2658 : (Jvm.Cond.code ({ cls := "QueueDriveModel", name := "isDrained", desc := "([I)Z" } : Jvm.MethodName) prog_13_method_95_code (4 : Nat) (Option.some Jvm.ClassFile.FieldType.boolean)) ∈ lw_all := lw_g (lw_at lw_m11 167 rfl) rfl
theorem q2659 : (Jvm.Cond.methodLink "QueueDriveModel" (418 : Nat) ({ cls := "QueueDriveModel", name := "takesAll", desc := "([I)V" } : Jvm.MethodName)) ∈ lw_all := lw_g (lw_at lw_m11 168 rfl) rfl
theorem q2660 : (Jvm.Cond.privateMethod ({ cls := "QueueDriveModel", name := "takesAll", desc := "([I)V" } : Jvm.MethodName)) ∈ lw_tbl := lw_at lw_m11 169 rfl
theorem q2661 : (Jvm.Cond.instanceMethod ({ cls := "QueueDriveModel", name := "takesAll", desc := "([I)V" } : Jvm.MethodName)) ∈ lw_all := lw_g (lw_at lw_m11 170 rfl) rfl
theorem q2662 : (Jvm.Cond.code ({ cls := "QueueDriveModel", name := "takesAll", desc := "([I)V" } : Jvm.MethodName) prog_13_method_96_code (3 : Nat) (Option.none : Option Jvm.ClassFile.FieldType)) ∈ lw_all := lw_g (lw_at lw_m11 171 rfl) rfl
theorem q2664 : (Jvm.Cond.instanceMethod ({ cls := "QueueDriveModel", name := "would", desc := "(I)I" } : Jvm.MethodName)) ∈ lw_all := lw_g (lw_at lw_m11 173 rfl) rfl
theorem q2665 : (Jvm.Cond.selects "QueueDriveModel" ({ cls := "QueueDriveModel", name := "would", desc := "(I)I" } : Jvm.MethodName) ({ cls := "QueueDriveModel", name := "would", desc := "(I)I" } : Jvm.MethodName)) ∈ lw_all := lw_g (lw_at lw_m11 174 rfl) rfl
theorem q2666 : (Jvm.Cond.code ({ cls := "QueueDriveModel", name := "would", desc := "(I)I" } : Jvm.MethodName) prog_13_method_99_code (3 : Nat) (Option.some Jvm.ClassFile.FieldType.int)) ∈ lw_all := lw_g (lw_at lw_m11 175 rfl) rfl
theorem q2668 : (Jvm.Cond.instanceMethod ({ cls := "QueueDriveModel", name := "needs", desc := "(I)I" } : Jvm.MethodName)) ∈ lw_all := lw_g (lw_at lw_m11 177 rfl) rfl
theorem q2669 : (Jvm.Cond.selects "QueueDriveModel" ({ cls := "QueueDriveModel", name := "needs", desc := "(I)I" } : Jvm.MethodName) ({ cls := "QueueDriveModel", name := "needs", desc := "(I)I" } : Jvm.MethodName)) ∈ lw_all := lw_g (lw_at lw_m11 178 rfl) rfl
theorem q2670 : (Jvm.Cond.code ({ cls := "QueueDriveModel", name := "needs", desc := "(I)I" } : Jvm.MethodName) prog_13_method_100_code (3 : Nat) (Option.some Jvm.ClassFile.FieldType.int)) ∈ lw_all := lw_g (lw_at lw_m11 179 rfl) rfl
theorem q2672 : (Jvm.Cond.instanceMethod ({ cls := "QueueDriveModel", name := "bells", desc := "()I" } : Jvm.MethodName)) ∈ lw_all := lw_g (lw_at lw_m11 181 rfl) rfl
theorem q2673 : (Jvm.Cond.selects "QueueDriveModel" ({ cls := "QueueDriveModel", name := "bells", desc := "()I" } : Jvm.MethodName) ({ cls := "QueueDriveModel", name := "bells", desc := "()I" } : Jvm.MethodName)) ∈ lw_all := lw_g (lw_at lw_m11 182 rfl) rfl
theorem q2674 : (Jvm.Cond.code ({ cls := "QueueDriveModel", name := "bells", desc := "()I" } : Jvm.MethodName) prog_13_method_101_code (1 : Nat) (Option.some Jvm.ClassFile.FieldType.int)) ∈ lw_all := lw_g (lw_at lw_m11 183 rfl) rfl
theorem q2676 : (Jvm.Cond.instanceMethod ({ cls := "QueueDriveModel", name := "recall", desc := "(II)I" } : Jvm.MethodName)) ∈ lw_all := lw_g (lw_at lw_m11 185 rfl) rfl
theorem q2677 : (Jvm.Cond.selects "QueueDriveModel" ({ cls := "QueueDriveModel", name := "recall", desc := "(II)I" } : Jvm.MethodName) ({ cls := "QueueDriveModel", name := "recall", desc := "(II)I" } : Jvm.MethodName)) ∈ lw_all := lw_g (lw_at lw_m11 186 rfl) rfl
theorem q2678 : (Jvm.Cond.code ({ cls := "QueueDriveModel", name := "recall", desc := "(II)I" } : Jvm.MethodName) prog_13_method_102_code (5 : Nat) (Option.some Jvm.ClassFile.FieldType.int)) ∈ lw_all := lw_g (lw_at lw_m11 187 rfl) rfl
theorem q2680 : (Jvm.Cond.instanceMethod ({ cls := "QueueDriveModel", name := "served", desc := "()I" } : Jvm.MethodName)) ∈ lw_all := lw_g (lw_at lw_m11 189 rfl) rfl
theorem q2681 : (Jvm.Cond.selects "QueueDriveModel" ({ cls := "QueueDriveModel", name := "served", desc := "()I" } : Jvm.MethodName) ({ cls := "QueueDriveModel", name := "served", desc := "()I" } : Jvm.MethodName)) ∈ lw_all := lw_g (lw_at lw_m11 190 rfl) rfl
theorem q2682 : (Jvm.Cond.code ({ cls := "QueueDriveModel", name := "served", desc := "()I" } : Jvm.MethodName) prog_13_method_103_code (2 : Nat) (Option.some Jvm.ClassFile.FieldType.int)) ∈ lw_all := lw_g (lw_at lw_m11 191 rfl) rfl
theorem q2684 : (Jvm.Cond.instanceMethod ({ cls := "QueueDriveModel", name := "heard", desc := "(II)I" } : Jvm.MethodName)) ∈ lw_all := lw_g (lw_at lw_m11 193 rfl) rfl
theorem q2685 : (Jvm.Cond.selects "QueueDriveModel" ({ cls := "QueueDriveModel", name := "heard", desc := "(II)I" } : Jvm.MethodName) ({ cls := "QueueDriveModel", name := "heard", desc := "(II)I" } : Jvm.MethodName)) ∈ lw_all := lw_g (lw_at lw_m11 194 rfl) rfl
theorem q2686 : (Jvm.Cond.code ({ cls := "QueueDriveModel", name := "heard", desc := "(II)I" } : Jvm.MethodName) prog_13_method_105_code (3 : Nat) (Option.some Jvm.ClassFile.FieldType.int)) ∈ lw_all := lw_g (lw_at lw_m11 195 rfl) rfl
theorem q2687 : (Jvm.Cond.methodLink "QueueDriveModel" (424 : Nat) ({ cls := "QueueDriveModel", name := "highest", desc := "(I)I" } : Jvm.MethodName)) ∈ lw_all := lw_g (lw_at lw_m11 196 rfl) rfl
theorem q2688 : (Jvm.Cond.static ({ cls := "QueueDriveModel", name := "highest", desc := "(I)I" } : Jvm.MethodName)) ∈ lw_all := lw_g (lw_at lw_m11 197 rfl) rfl
theorem q2689 : (Jvm.Cond.code ({ cls := "QueueDriveModel", name := "highest", desc := "(I)I" } : Jvm.MethodName) prog_13_method_104_code (1 : Nat) (Option.some Jvm.ClassFile.FieldType.int)) ∈ lw_all := lw_g (lw_at lw_m11 198 rfl) rfl
theorem q2691 : (Jvm.Cond.instanceMethod ({ cls := "QueueDriveModel", name := "denies", desc := "()I" } : Jvm.MethodName)) ∈ lw_all := lw_g (lw_at lw_m11 200 rfl) rfl
theorem q2692 : (Jvm.Cond.selects "QueueDriveModel" ({ cls := "QueueDriveModel", name := "denies", desc := "()I" } : Jvm.MethodName) ({ cls := "QueueDriveModel", name := "denies", desc := "()I" } : Jvm.MethodName)) ∈ lw_all := lw_g (lw_at lw_m11 201 rfl) rfl
theorem q2693 : (Jvm.Cond.code ({ cls := "QueueDriveModel", name := "denies", desc := "()I" } : Jvm.MethodName) prog_13_method_106_code (2 : Nat) (Option.some Jvm.ClassFile.FieldType.int)) ∈ lw_all := lw_g (lw_at lw_m11 202 rfl) rfl
theorem q2695 : (Jvm.Cond.instanceMethod ({ cls := "QueueDriveModel", name := "fits", desc := "()I" } : Jvm.MethodName)) ∈ lw_all := lw_g (lw_at lw_m11 204 rfl) rfl
theorem q2696 : (Jvm.Cond.selects "QueueDriveModel" ({ cls := "QueueDriveModel", name := "fits", desc := "()I" } : Jvm.MethodName) ({ cls := "QueueDriveModel", name := "fits", desc := "()I" } : Jvm.MethodName)) ∈ lw_all := lw_g (lw_at lw_m11 205 rfl) rfl
theorem q2697 : (Jvm.Cond.code ({ cls := "QueueDriveModel", name := "fits", desc := "()I" } : Jvm.MethodName) prog_13_method_110_code (5 : Nat) (Option.some Jvm.ClassFile.FieldType.int)) ∈ lw_all := lw_g (lw_at lw_m11 206 rfl) rfl
theorem q2698 : (Jvm.Cond.methodLink "QueueDriveModel" (437 : Nat) ({ cls := "QueueDriveModel", name := "isFitting", desc := "(II)Z" } : Jvm.MethodName)) ∈ lw_all := lw_g (lw_at lw_m11 207 rfl) rfl
theorem q2699 : (Jvm.Cond.privateMethod ({ cls := "QueueDriveModel", name := "isFitting", desc := "(II)Z" } : Jvm.MethodName)) ∈ lw_tbl := lw_at lw_m11 208 rfl
theorem q2700 : (Jvm.Cond.instanceMethod ({ cls := "QueueDriveModel", name := "isFitting", desc := "(II)Z" } : Jvm.MethodName)) ∈ lw_all := lw_g (lw_at lw_m11 209 rfl) rfl
theorem q2701 : (Jvm.Cond.code ({ cls := "QueueDriveModel", name := "isFitting", desc := "(II)Z" } : Jvm.MethodName) prog_13_method_109_code (5 : Nat) (Option.some Jvm.ClassFile.FieldType.boolean)) ∈ lw_all := lw_g (lw_at lw_m11 210 rfl) rfl
theorem q2702 : (Jvm.Cond.methodLink "QueueDriveModel" (430 : Nat) ({ cls := "QueueDriveModel", name := "commandAt", desc := "(II)I" } : Jvm.MethodName)) ∈ lw_all := lw_g (lw_at lw_m11 211 rfl) rfl
theorem q2703 : (Jvm.Cond.privateMethod ({ cls := "QueueDriveModel", name := "commandAt", desc := "(II)I" } : Jvm.MethodName)) ∈ lw_tbl := lw_at lw_m11 212 rfl
theorem q2704 : (Jvm.Cond.instanceMethod ({ cls := "QueueDriveModel", name := "commandAt", desc := "(II)I" } : Jvm.MethodName)) ∈ lw_all := lw_g (lw_at lw_m11 213 rfl) rfl
theorem q2705 : (Jvm.Cond.code ({ cls := "QueueDriveModel", name := "commandAt", desc := "(II)I" } : Jvm.MethodName) prog_13_method_107_code (6 : Nat) (Option.some Jvm.ClassFile.FieldType.int)) ∈ lw_all := lw_g (lw_at lw_m11 214 rfl) rfl
theorem q2706 : (Jvm.Cond.methodLink "QueueDriveModel" (433 : Nat) ({ cls := "QueueDriveModel", name := "isSo", desc := "(IIII)Z" } : Jvm.MethodName)) ∈ lw_all := lw_g (lw_at lw_m11 215 rfl) rfl
theorem q2707 : (Jvm.Cond.privateMethod ({ cls := "QueueDriveModel", name := "isSo", desc := "(IIII)Z" } : Jvm.MethodName)) ∈ lw_tbl := lw_at lw_m11 216 rfl
theorem q2708 : (Jvm.Cond.instanceMethod ({ cls := "QueueDriveModel", name := "isSo", desc := "(IIII)Z" } : Jvm.MethodName)) ∈ lw_all := lw_g (lw_at lw_m11 217 rfl) rfl
theorem q2709 : (Jvm.Cond.code ({ cls := "QueueDriveModel", name := "isSo", desc := "(IIII)Z" } : Jvm.MethodName) prog_13_method_108_code (6 : Nat) (Option.some Jvm.ClassFile.FieldType.boolean)) ∈ lw_all := lw_g (lw_at lw_m11 218 rfl) rfl
theorem q2711 : (Jvm.Cond.instanceMethod ({ cls := "QueueDriveModel", name := "asks", desc := "()I" } : Jvm.MethodName)) ∈ lw_all := lw_g (lw_at lw_m11 220 rfl) rfl
theorem q2712 : (Jvm.Cond.selects "QueueDriveModel" ({ cls := "QueueDriveModel", name := "asks", desc := "()I" } : Jvm.MethodName) ({ cls := "QueueDriveModel", name := "asks", desc := "()I" } : Jvm.MethodName)) ∈ lw_all := lw_g (lw_at lw_m11 221 rfl) rfl
theorem q2713 : (Jvm.Cond.code ({ cls := "QueueDriveModel", name := "asks", desc := "()I" } : Jvm.MethodName) prog_13_method_112_code (8 : Nat) (Option.some Jvm.ClassFile.FieldType.int)) ∈ lw_all := lw_g (lw_at lw_m11 222 rfl) rfl
theorem q2714 : (Jvm.Cond.constant "QueueDriveModel" (441 : Nat) (1000000 : Int32)) ∈ lw_all := lw_g (lw_at lw_m11 223 rfl) rfl
theorem q2715 : (Jvm.Cond.methodLink "QueueDriveModel" (442 : Nat) ({ cls := "QueueDriveModel", name := "soMany", desc := "(II)I" } : Jvm.MethodName)) ∈ lw_all := lw_g (lw_at lw_m11 224 rfl) rfl
theorem q2716 : (Jvm.Cond.privateMethod ({ cls := "QueueDriveModel", name := "soMany", desc := "(II)I" } : Jvm.MethodName)) ∈ lw_tbl := lw_at lw_m11 225 rfl
theorem q2717 : (Jvm.Cond.instanceMethod ({ cls := "QueueDriveModel", name := "soMany", desc := "(II)I" } : Jvm.MethodName)) ∈ lw_all := lw_g (lw_at lw_m11 226 rfl) rfl
theorem q2718 : (Jvm.Cond.code ({ cls := "QueueDriveModel", name := "soMany", desc := "(II)I" } : Jvm.MethodName) prog_13_method_111_code (6 : Nat) (Option.some Jvm.ClassFile.FieldType.int)) ∈ lw_all := lw_g (lw_at lw_m11 227 rfl) rfl
theorem q2720 : (Jvm.Cond.instanceMethod ({ cls := "QueueDriveModel", name := "laps", desc := "(III)I" } : Jvm.MethodName)) ∈ lw_all := lw_g (lw_at lw_m11 229 rfl) rfl
theorem q2721 : (Jvm.Cond.selects "QueueDriveModel" ({ cls := "QueueDriveModel", name := "laps", desc := "(III)I" } : Jvm.MethodName) ({ cls := "QueueDriveModel", name := "laps", desc := "(III)I" } : Jvm.MethodName)) ∈ lw_all := lw_g (lw_at lw_m11 230 rfl) rfl
theorem q2722 : (Jvm.Cond.code ({ cls := "QueueDriveModel", name := "laps", desc := "(III)I" } : Jvm.MethodName) prog_13_method_113_code (6 : Nat) (Option.some Jvm.ClassFile.FieldType.int)) ∈ lw_all := lw_g (lw_at lw_m11 231 rfl) rfl
theorem q2723 : (Jvm.Cond.constantLong "QueueDriveModel" (445 : Nat) (2 : Int64)) ∈ lw_all := lw_g (lw_at lw_m11 232 rfl) rfl
theorem q2724 : (Jvm.Cond.constantLong "QueueDriveModel" (447 : Nat) (40 : Int64)) ∈ lw_all := lw_g (lw_at lw_m11 233 rfl) rfl
theorem q2726 : (Jvm.Cond.instanceMethod ({ cls := "QueueDriveModel", name := "law", desc := "()I" } : Jvm.MethodName)) ∈ lw_all := lw_g (lw_at lw_m11 235 rfl) rfl
theorem q2727 : (Jvm.Cond.selects "QueueDriveModel" ({ cls := "QueueDriveModel", name := "law", desc := "()I" } : Jvm.MethodName) ({ cls := "QueueDriveModel", name := "law", desc := "()I" } : Jvm.MethodName)) ∈ lw_all := lw_g (lw_at lw_m11 236 rfl) rfl
theorem q2728 : (Jvm.Cond.code ({ cls := "QueueDriveModel", name := "law", desc := "()I" } : Jvm.MethodName) prog_13_method_115_code (5 : Nat) (Option.some Jvm.ClassFile.FieldType.int)) ∈ lw_all := lw_g (lw_at lw_m11 237 rfl) rfl
theorem q2729 : (Jvm.Cond.methodLink "QueueDriveModel" (449 : Nat) ({ cls := "QueueDriveModel", name := "drainsBy", desc := "()I" } : Jvm.MethodName)) ∈ lw_all := lw_g (lw_at lw_m11 238 rfl) rfl
theorem q2730 : (Jvm.Cond.privateMethod ({ cls := "QueueDriveModel", name := "drainsBy", desc := "()I" } : Jvm.MethodName)) ∈ lw_tbl := lw_at lw_m11 239 rfl
theorem q2731 : (Jvm.Cond.instanceMethod ({ cls := "QueueDriveModel", name := "drainsBy", desc := "()I" } : Jvm.MethodName)) ∈ lw_all := lw_g (lw_at lw_m12 0 rfl) rfl
theorem q2732 : (Jvm.Cond.code ({ cls := "QueueDriveModel", name := "drainsBy", desc := "()I" } : Jvm.MethodName) prog_13_method_114_code (2 : Nat) (Option.some Jvm.ClassFile.FieldType.int)) ∈ lw_all := lw_g (lw_at lw_m12 1 rfl) rfl
theorem q2734 : (Jvm.Cond.instanceMethod ({ cls := "QueueDriveModel", name := "years", desc := "(II)I" } : Jvm.MethodName)) ∈ lw_all := lw_g (lw_at lw_m12 3 rfl) rfl
theorem q2735 : (Jvm.Cond.selects "QueueDriveModel" ({ cls := "QueueDriveModel", name := "years", desc := "(II)I" } : Jvm.MethodName) ({ cls := "QueueDriveModel", name := "years", desc := "(II)I" } : Jvm.MethodName)) ∈ lw_all := lw_g (lw_at lw_m12 4 rfl) rfl
theorem q2736 : (Jvm.Cond.code ({ cls := "QueueDriveModel", name := "years", desc := "(II)I" } : Jvm.MethodName) prog_13_method_118_code (6 : Nat) (Option.some Jvm.ClassFile.FieldType.int)) ∈ lw_all := lw_g (lw_at lw_m12 5 rfl) rfl
theorem q2737 : (Jvm.Cond.methodLink "QueueDriveModel" (456 : Nat) ({ cls := "QueueDriveModel", name := "draws", desc := "(I)I" } : Jvm.MethodName)) ∈ lw_all := lw_g (lw_at lw_m12 6 rfl) rfl
theorem q2738 : (Jvm.Cond.privateMethod ({ cls := "QueueDriveModel", name := "draws", desc := "(I)I" } : Jvm.MethodName)) ∈ lw_tbl := lw_at lw_m12 7 rfl
theorem q2739 : (Jvm.Cond.instanceMethod ({ cls := "QueueDriveModel", name := "draws", desc := "(I)I" } : Jvm.MethodName)) ∈ lw_all := lw_g (lw_at lw_m12 8 rfl) rfl
theorem q2740 : (Jvm.Cond.code ({ cls := "QueueDriveModel", name := "draws", desc := "(I)I" } : Jvm.MethodName) prog_13_method_116_code (2 : Nat) (Option.some Jvm.ClassFile.FieldType.int)) ∈ lw_all := lw_g (lw_at lw_m12 9 rfl) rfl
theorem q2741 : (Jvm.Cond.constant "QueueDriveModel" (455 : Nat) (1103515245 : Int32)) ∈ lw_all := lw_g (lw_at lw_m12 10 rfl) rfl
theorem q2742 : (Jvm.Cond.methodLink "QueueDriveModel" (459 : Nat) ({ cls := "QueueDriveModel", name := "drawnAct", desc := "(II)Z" } : Jvm.MethodName)) ∈ lw_all := lw_g (lw_at lw_m12 11 rfl) rfl
theorem q2743 : (Jvm.Cond.privateMethod ({ cls := "QueueDriveModel", name := "drawnAct", desc := "(II)Z" } : Jvm.MethodName)) ∈ lw_tbl := lw_at lw_m12 12 rfl
theorem q2744 : (Jvm.Cond.instanceMethod ({ cls := "QueueDriveModel", name := "drawnAct", desc := "(II)Z" } : Jvm.MethodName)) ∈ lw_all := lw_g (lw_at lw_m12 13 rfl) rfl
theorem q2745 : (Jvm.Cond.code ({ cls := "QueueDriveModel", name := "drawnAct", desc := "(II)Z" } : Jvm.MethodName) prog_13_method_117_code (5 : Nat) (Option.some Jvm.ClassFile.FieldType.boolean)) ∈ lw_all := lw_g (lw_at lw_m12 14 rfl) rfl
theorem q2747 : (Jvm.Cond.instanceMethod ({ cls := "QueueDriveModel", name := "keep", desc := "(I)Z" } : Jvm.MethodName)) ∈ lw_all := lw_g (lw_at lw_m12 16 rfl) rfl
theorem q2748 : (Jvm.Cond.selects "QueueDriveModel" ({ cls := "QueueDriveModel", name := "keep", desc := "(I)Z" } : Jvm.MethodName) ({ cls := "QueueDriveModel", name := "keep", desc := "(I)Z" } : Jvm.MethodName)) ∈ lw_all := lw_g (lw_at lw_m12 17 rfl) rfl
theorem q2749 : (Jvm.Cond.code ({ cls := "QueueDriveModel", name := "keep", desc := "(I)Z" } : Jvm.MethodName) prog_13_method_119_code (3 : Nat) (Option.some Jvm.ClassFile.FieldType.boolean)) ∈ lw_all := lw_g (lw_at lw_m12 18 rfl) rfl
theorem q2751 : (Jvm.Cond.instanceMethod ({ cls := "QueueDriveModel", name := "again", desc := "(I)Z" } : Jvm.MethodName)) ∈ lw_all := lw_g (lw_at lw_m12 20 rfl) rfl
theorem q2752 : (Jvm.Cond.selects "QueueDriveModel" ({ cls := "QueueDriveModel", name := "again", desc := "(I)Z" } : Jvm.MethodName) ({ cls := "QueueDriveModel", name := "again", desc := "(I)Z" } : Jvm.MethodName)) ∈ lw_all := lw_g (lw_at lw_m12 21 rfl) rfl
theorem q2753 : (Jvm.Cond.code ({ cls := "QueueDriveModel", name := "again", desc := "(I)Z" } : Jvm.MethodName) prog_13_method_120_code (3 : Nat) (Option.some Jvm.ClassFile.FieldType.boolean)) ∈ lw_all := lw_g (lw_at lw_m12 22 rfl) rfl
theorem q2755 : (Jvm.Cond.instanceMethod ({ cls := "QueueDriveModel", name := "count", desc := "(I)I" } : Jvm.MethodName)) ∈ lw_all := lw_g (lw_at lw_m12 24 rfl) rfl
theorem q2756 : (Jvm.Cond.selects "QueueDriveModel" ({ cls := "QueueDriveModel", name := "count", desc := "(I)I" } : Jvm.MethodName) ({ cls := "QueueDriveModel", name := "count", desc := "(I)I" } : Jvm.MethodName)) ∈ lw_all := lw_g (lw_at lw_m12 25 rfl) rfl
theorem q2757 : (Jvm.Cond.code ({ cls := "QueueDriveModel", name := "count", desc := "(I)I" } : Jvm.MethodName) prog_13_method_121_code (5 : Nat) (Option.some Jvm.ClassFile.FieldType.int)) ∈ lw_all := lw_g (lw_at lw_m12 26 rfl) rfl
theorem q2759 : (Jvm.Cond.instanceMethod ({ cls := "QueueDriveModel", name := "row", desc := "(I)J" } : Jvm.MethodName)) ∈ lw_all := lw_g (lw_at lw_m12 28 rfl) rfl
theorem q2760 : (Jvm.Cond.selects "QueueDriveModel" ({ cls := "QueueDriveModel", name := "row", desc := "(I)J" } : Jvm.MethodName) ({ cls := "QueueDriveModel", name := "row", desc := "(I)J" } : Jvm.MethodName)) ∈ lw_all := lw_g (lw_at lw_m12 29 rfl) rfl
theorem q2761 : (Jvm.Cond.code ({ cls := "QueueDriveModel", name := "row", desc := "(I)J" } : Jvm.MethodName) prog_13_method_122_code (2 : Nat) (Option.some Jvm.ClassFile.FieldType.long)) ∈ lw_all := lw_g (lw_at lw_m12 30 rfl) rfl
theorem q2785 : (Jvm.Cond.castable "QueueDriveModel" "java/lang/Object") ∈ lw_tbl := lw_at lw_m12 54 rfl
theorem in_X4 : ∀ w ∈ wsX40, w ∈ lw_all := lw_in wsX40 [2266, 2268, 2270, 2272, 2274, 2276, 2278, 2280, 2282, 2284, 2286, 2288, 2290, 2292, 2294, 2296, 2298, 2300, 2302, 2304, 2306, 2308, 2310, 2312, 2314, 2316, 2318, 2320, 2322, 2324, 2326, 2328, 2330, 2332, 2334, 2336, 2338, 2340, 2342, 2344, 2346, 2348, 2350, 2352, 2354] (by decide +kernel) (by decide +kernel)
