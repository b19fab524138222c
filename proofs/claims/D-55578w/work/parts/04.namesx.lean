/-! ChantRules -/
set_option maxRecDepth 100000
def RX0 : String := "ChantRules"
def TX0 : u_T := fun k => match k with
  | 0 => ("ChantRules", "hears", "[LChantRules$Test;", true)
  | 1 => ("ChantRules", "choir", "LChantRules$Choir;", false)
  | 2 => ("ChantRules", "saved", "LChantRules$Choir;", false)
  | 3 => ("ChantRules", "past", "Ljava/util/ArrayDeque;", true)
  | 4 => ("ChantRules", "reason", "I", false)
  | 5 => ("ChantRules", "detail", "I", false)
  | 6 => ("ChantRules", "behind", "I", false)
  | 7 => ("ChantRules", "behindDetail", "I", false)
  | 8 => ("ChantRules", "text", "Ljava/lang/StringBuilder;", true)
  | _ => ("ChantRules", "line", "Ljava/lang/String;", false)
def tyX0 : Nat → FieldType := fun k => match k with
  | 0 => .array (.object "ChantRules$Test")
  | 1 => .object "ChantRules$Choir"
  | 2 => .object "ChantRules$Choir"
  | 3 => .object "java/util/ArrayDeque"
  | 4 => .int
  | 5 => .int
  | 6 => .int
  | 7 => .int
  | 8 => .object "java/lang/StringBuilder"
  | _ => .object "java/lang/String"
abbrev wsX00 : List Cond := u_ws RX0 TX0 10
theorem nmX0 : ∀ a, a < 10 → ∀ b, b < 10 → a ≠ b → (TX0 a).2.1 ≠ (TX0 b).2.1 := by decide +kernel
theorem tyX0_ok : ∀ k, k < 10 → parseFieldDescriptor (TX0 k).2.2.1 = some (tyX0 k) := by decide +kernel
abbrev cX0_init : ByteArray := prog_1_method_1_code
def yX0_init : MethodName := ⟨RX0, "<init>", "()V"⟩
def dkwX0_init_4 : List UInt8 := [167, 255, 222, 177]
abbrev dktX0_init_4 : List UInt8 := dkwX0_init_4 ++ []
def dkwX0_init_3 : List UInt8 := [182, 0, 48, 54, 5, 42, 180, 0, 11, 21, 5, 21, 5, 186, 0, 52, 0, 0, 83, 132, 3, 1]
abbrev dktX0_init_3 : List UInt8 := dkwX0_init_3 ++ dktX0_init_4
def dkwX0_init_2 : List UInt8 := [181, 0, 38, 184, 0, 42, 76, 43, 190, 61, 3, 62, 29, 28, 162, 0, 35, 43, 29, 50, 58, 4, 25, 4]
abbrev dktX0_init_2 : List UInt8 := dkwX0_init_2 ++ dktX0_init_3
def dkwX0_init_1 : List UInt8 := [187, 0, 22, 89, 183, 0, 24, 181, 0, 25, 42, 187, 0, 29, 89, 183, 0, 31, 181, 0, 32, 42, 18, 36]
abbrev dktX0_init_1 : List UInt8 := dkwX0_init_1 ++ dktX0_init_2
def dkwX0_init_0 : List UInt8 := [42, 183, 0, 1, 42, 8, 189, 0, 9, 181, 0, 11, 42, 187, 0, 15, 89, 183, 0, 17, 181, 0, 18, 42]
abbrev dktX0_init_0 : List UInt8 := dkwX0_init_0 ++ dktX0_init_1
theorem dksX0_init_0 : cX0_init.data.toList.drop 0 = dktX0_init_0 := by decide +kernel
theorem dksX0_init_1 : cX0_init.data.toList.drop 24 = dktX0_init_1 := dk_seg dksX0_init_0 24 rfl rfl
theorem dksX0_init_2 : cX0_init.data.toList.drop 48 = dktX0_init_2 := dk_seg dksX0_init_1 24 rfl rfl
theorem dksX0_init_3 : cX0_init.data.toList.drop 72 = dktX0_init_3 := dk_seg dksX0_init_2 24 rfl rfl
theorem dksX0_init_4 : cX0_init.data.toList.drop 94 = dktX0_init_4 := dk_seg dksX0_init_3 22 rfl rfl
theorem dX0_init_0 : decode cX0_init 0 = .ok (.aload_n 0, 1) := dk_42 (dk_at dksX0_init_0 0 rfl rfl)
theorem dX0_init_1 : decode cX0_init 1 = .ok (.invokespecial 1, 3) := dk_183 0 1 (dk_at dksX0_init_0 1 rfl rfl)
theorem dX0_init_4 : decode cX0_init 4 = .ok (.aload_n 0, 1) := dk_42 (dk_at dksX0_init_0 4 rfl rfl)
theorem dX0_init_5 : decode cX0_init 5 = .ok (.iconst 5, 1) := dk_8 (dk_at dksX0_init_0 5 rfl rfl)
theorem dX0_init_6 : decode cX0_init 6 = .ok (.anewarray 9, 3) := dk_189 0 9 (dk_at dksX0_init_0 6 rfl rfl)
theorem dX0_init_9 : decode cX0_init 9 = .ok (.putfield 11, 3) := dk_181 0 11 (dk_at dksX0_init_0 9 rfl rfl)
theorem dX0_init_12 : decode cX0_init 12 = .ok (.aload_n 0, 1) := dk_42 (dk_at dksX0_init_0 12 rfl rfl)
theorem dX0_init_13 : decode cX0_init 13 = .ok (.new 15, 3) := dk_187 0 15 (dk_at dksX0_init_0 13 rfl rfl)
theorem dX0_init_16 : decode cX0_init 16 = .ok (.dup, 1) := dk_89 (dk_at dksX0_init_0 16 rfl rfl)
theorem dX0_init_17 : decode cX0_init 17 = .ok (.invokespecial 17, 3) := dk_183 0 17 (dk_at dksX0_init_0 17 rfl rfl)
theorem dX0_init_20 : decode cX0_init 20 = .ok (.putfield 18, 3) := dk_181 0 18 (dk_at dksX0_init_0 20 rfl rfl)
theorem dX0_init_23 : decode cX0_init 23 = .ok (.aload_n 0, 1) := dk_42 (dk_at dksX0_init_0 23 rfl rfl)
theorem dX0_init_24 : decode cX0_init 24 = .ok (.new 22, 3) := dk_187 0 22 (dk_at dksX0_init_1 0 rfl rfl)
theorem dX0_init_27 : decode cX0_init 27 = .ok (.dup, 1) := dk_89 (dk_at dksX0_init_1 3 rfl rfl)
theorem dX0_init_28 : decode cX0_init 28 = .ok (.invokespecial 24, 3) := dk_183 0 24 (dk_at dksX0_init_1 4 rfl rfl)
theorem dX0_init_31 : decode cX0_init 31 = .ok (.putfield 25, 3) := dk_181 0 25 (dk_at dksX0_init_1 7 rfl rfl)
theorem dX0_init_34 : decode cX0_init 34 = .ok (.aload_n 0, 1) := dk_42 (dk_at dksX0_init_1 10 rfl rfl)
theorem dX0_init_35 : decode cX0_init 35 = .ok (.new 29, 3) := dk_187 0 29 (dk_at dksX0_init_1 11 rfl rfl)
theorem dX0_init_38 : decode cX0_init 38 = .ok (.dup, 1) := dk_89 (dk_at dksX0_init_1 14 rfl rfl)
theorem dX0_init_39 : decode cX0_init 39 = .ok (.invokespecial 31, 3) := dk_183 0 31 (dk_at dksX0_init_1 15 rfl rfl)
theorem dX0_init_42 : decode cX0_init 42 = .ok (.putfield 32, 3) := dk_181 0 32 (dk_at dksX0_init_1 18 rfl rfl)
theorem dX0_init_45 : decode cX0_init 45 = .ok (.aload_n 0, 1) := dk_42 (dk_at dksX0_init_1 21 rfl rfl)
theorem dX0_init_46 : decode cX0_init 46 = .ok (.ldc 36, 2) := dk_18 36 (dk_at dksX0_init_1 22 rfl rfl)
theorem dX0_init_48 : decode cX0_init 48 = .ok (.putfield 38, 3) := dk_181 0 38 (dk_at dksX0_init_2 0 rfl rfl)
theorem dX0_init_51 : decode cX0_init 51 = .ok (.invokestatic 42, 3) := dk_184 0 42 (dk_at dksX0_init_2 3 rfl rfl)
theorem dX0_init_54 : decode cX0_init 54 = .ok (.astore_n 1, 1) := dk_76 (dk_at dksX0_init_2 6 rfl rfl)
theorem dX0_init_55 : decode cX0_init 55 = .ok (.aload_n 1, 1) := dk_43 (dk_at dksX0_init_2 7 rfl rfl)
theorem dX0_init_56 : decode cX0_init 56 = .ok (.arraylength, 1) := dk_190 (dk_at dksX0_init_2 8 rfl rfl)
theorem dX0_init_57 : decode cX0_init 57 = .ok (.istore_n 2, 1) := dk_61 (dk_at dksX0_init_2 9 rfl rfl)
theorem dX0_init_58 : decode cX0_init 58 = .ok (.iconst 0, 1) := dk_3 (dk_at dksX0_init_2 10 rfl rfl)
theorem dX0_init_59 : decode cX0_init 59 = .ok (.istore_n 3, 1) := dk_62 (dk_at dksX0_init_2 11 rfl rfl)
theorem dX0_init_60 : decode cX0_init 60 = .ok (.iload_n 3, 1) := dk_29 (dk_at dksX0_init_2 12 rfl rfl)
theorem dX0_init_61 : decode cX0_init 61 = .ok (.iload_n 2, 1) := dk_28 (dk_at dksX0_init_2 13 rfl rfl)
theorem dX0_init_62 : decode cX0_init 62 = .ok (.if_icmp .ge 35, 3) := dk_162 0 35 (dk_at dksX0_init_2 14 rfl rfl)
theorem dX0_init_65 : decode cX0_init 65 = .ok (.aload_n 1, 1) := dk_43 (dk_at dksX0_init_2 17 rfl rfl)
theorem dX0_init_66 : decode cX0_init 66 = .ok (.iload_n 3, 1) := dk_29 (dk_at dksX0_init_2 18 rfl rfl)
theorem dX0_init_67 : decode cX0_init 67 = .ok (.aaload, 1) := dk_50 (dk_at dksX0_init_2 19 rfl rfl)
theorem dX0_init_68 : decode cX0_init 68 = .ok (.astore 4, 2) := dk_58 4 (dk_at dksX0_init_2 20 rfl rfl)
theorem dX0_init_70 : decode cX0_init 70 = .ok (.aload 4, 2) := dk_25 4 (dk_at dksX0_init_2 22 rfl rfl)
theorem dX0_init_72 : decode cX0_init 72 = .ok (.invokevirtual 48, 3) := dk_182 0 48 (dk_at dksX0_init_3 0 rfl rfl)
theorem dX0_init_75 : decode cX0_init 75 = .ok (.istore 5, 2) := dk_54 5 (dk_at dksX0_init_3 3 rfl rfl)
theorem dX0_init_77 : decode cX0_init 77 = .ok (.aload_n 0, 1) := dk_42 (dk_at dksX0_init_3 5 rfl rfl)
theorem dX0_init_78 : decode cX0_init 78 = .ok (.getfield 11, 3) := dk_180 0 11 (dk_at dksX0_init_3 6 rfl rfl)
theorem dX0_init_81 : decode cX0_init 81 = .ok (.iload 5, 2) := dk_21 5 (dk_at dksX0_init_3 9 rfl rfl)
theorem dX0_init_83 : decode cX0_init 83 = .ok (.iload 5, 2) := dk_21 5 (dk_at dksX0_init_3 11 rfl rfl)
theorem dX0_init_85 : decode cX0_init 85 = .ok (.invokedynamic 52, 5) := by decide +kernel
theorem dX0_init_90 : decode cX0_init 90 = .ok (.aastore, 1) := dk_83 (dk_at dksX0_init_3 18 rfl rfl)
theorem dX0_init_91 : decode cX0_init 91 = .ok (.iinc 3 1, 3) := dk_132 3 1 (dk_at dksX0_init_3 19 rfl rfl)
theorem dX0_init_94 : decode cX0_init 94 = .ok (.goto (-34), 3) := dk_167 255 222 (dk_at dksX0_init_4 0 rfl rfl)
theorem dX0_init_97 : decode cX0_init 97 = .ok (.return_, 1) := dk_177 (dk_at dksX0_init_4 3 rfl rfl)
abbrev cX0_lambda_new_0 : ByteArray := prog_1_method_52_code
def yX0_lambda_new_0 : MethodName := ⟨RX0, "lambda$new$0", "(ILChantRules$Arc;)Z"⟩
def dkwX0_lambda_new_0_0 : List UInt8 := [43, 185, 0, 118, 1, 0, 26, 160, 0, 7, 4, 167, 0, 4, 3, 172]
abbrev dktX0_lambda_new_0_0 : List UInt8 := dkwX0_lambda_new_0_0 ++ []
theorem dksX0_lambda_new_0_0 : cX0_lambda_new_0.data.toList.drop 0 = dktX0_lambda_new_0_0 := by decide +kernel
theorem dX0_lambda_new_0_0 : decode cX0_lambda_new_0 0 = .ok (.aload_n 1, 1) := dk_43 (dk_at dksX0_lambda_new_0_0 0 rfl rfl)
theorem dX0_lambda_new_0_1 : decode cX0_lambda_new_0 1 = .ok (.invokeinterface 118 1, 5) := by decide +kernel
theorem dX0_lambda_new_0_6 : decode cX0_lambda_new_0 6 = .ok (.iload_n 0, 1) := dk_26 (dk_at dksX0_lambda_new_0_0 6 rfl rfl)
theorem dX0_lambda_new_0_7 : decode cX0_lambda_new_0 7 = .ok (.if_icmp .ne 7, 3) := dk_160 0 7 (dk_at dksX0_lambda_new_0_0 7 rfl rfl)
theorem dX0_lambda_new_0_10 : decode cX0_lambda_new_0 10 = .ok (.iconst 1, 1) := dk_4 (dk_at dksX0_lambda_new_0_0 10 rfl rfl)
theorem dX0_lambda_new_0_11 : decode cX0_lambda_new_0 11 = .ok (.goto 4, 3) := dk_167 0 4 (dk_at dksX0_lambda_new_0_0 11 rfl rfl)
theorem dX0_lambda_new_0_14 : decode cX0_lambda_new_0 14 = .ok (.iconst 0, 1) := dk_3 (dk_at dksX0_lambda_new_0_0 14 rfl rfl)
theorem dX0_lambda_new_0_15 : decode cX0_lambda_new_0 15 = .ok (.ireturn, 1) := dk_172 (dk_at dksX0_lambda_new_0_0 15 rfl rfl)
abbrev cX0_state : ByteArray := prog_1_method_17_code
def yX0_state : MethodName := ⟨RX0, "state", "(I)I"⟩
def dkwX0_state_1 : List UInt8 := [180, 0, 178, 27, 50, 182, 0, 182, 182, 0, 187, 172, 78, 42, 45, 182, 0, 191, 172]
abbrev dktX0_state_1 : List UInt8 := dkwX0_state_1 ++ []
def dkwX0_state_0 : List UInt8 := [27, 184, 0, 170, 154, 0, 6, 16, 245, 172, 42, 180, 0, 18, 182, 0, 174, 77, 42, 44, 42, 180, 0, 18]
abbrev dktX0_state_0 : List UInt8 := dkwX0_state_0 ++ dktX0_state_1
theorem dksX0_state_0 : cX0_state.data.toList.drop 0 = dktX0_state_0 := by decide +kernel
theorem dksX0_state_1 : cX0_state.data.toList.drop 24 = dktX0_state_1 := dk_seg dksX0_state_0 24 rfl rfl
theorem dX0_state_0 : decode cX0_state 0 = .ok (.iload_n 1, 1) := dk_27 (dk_at dksX0_state_0 0 rfl rfl)
theorem dX0_state_1 : decode cX0_state 1 = .ok (.invokestatic 170, 3) := dk_184 0 170 (dk_at dksX0_state_0 1 rfl rfl)
theorem dX0_state_4 : decode cX0_state 4 = .ok (.ifCond .ne 6, 3) := dk_154 0 6 (dk_at dksX0_state_0 4 rfl rfl)
theorem dX0_state_7 : decode cX0_state 7 = .ok (.bipush (-11), 2) := dk_16 245 (dk_at dksX0_state_0 7 rfl rfl)
theorem dX0_state_9 : decode cX0_state 9 = .ok (.ireturn, 1) := dk_172 (dk_at dksX0_state_0 9 rfl rfl)
theorem dX0_state_10 : decode cX0_state 10 = .ok (.aload_n 0, 1) := dk_42 (dk_at dksX0_state_0 10 rfl rfl)
theorem dX0_state_11 : decode cX0_state 11 = .ok (.getfield 18, 3) := dk_180 0 18 (dk_at dksX0_state_0 11 rfl rfl)
theorem dX0_state_14 : decode cX0_state 14 = .ok (.invokevirtual 174, 3) := dk_182 0 174 (dk_at dksX0_state_0 14 rfl rfl)
theorem dX0_state_17 : decode cX0_state 17 = .ok (.astore_n 2, 1) := dk_77 (dk_at dksX0_state_0 17 rfl rfl)
theorem dX0_state_18 : decode cX0_state 18 = .ok (.aload_n 0, 1) := dk_42 (dk_at dksX0_state_0 18 rfl rfl)
theorem dX0_state_19 : decode cX0_state 19 = .ok (.aload_n 2, 1) := dk_44 (dk_at dksX0_state_0 19 rfl rfl)
theorem dX0_state_20 : decode cX0_state 20 = .ok (.aload_n 0, 1) := dk_42 (dk_at dksX0_state_0 20 rfl rfl)
theorem dX0_state_21 : decode cX0_state 21 = .ok (.getfield 18, 3) := dk_180 0 18 (dk_at dksX0_state_0 21 rfl rfl)
theorem dX0_state_24 : decode cX0_state 24 = .ok (.getfield 178, 3) := dk_180 0 178 (dk_at dksX0_state_1 0 rfl rfl)
theorem dX0_state_27 : decode cX0_state 27 = .ok (.iload_n 1, 1) := dk_27 (dk_at dksX0_state_1 3 rfl rfl)
theorem dX0_state_28 : decode cX0_state 28 = .ok (.aaload, 1) := dk_50 (dk_at dksX0_state_1 4 rfl rfl)
theorem dX0_state_29 : decode cX0_state 29 = .ok (.invokevirtual 182, 3) := dk_182 0 182 (dk_at dksX0_state_1 5 rfl rfl)
theorem dX0_state_32 : decode cX0_state 32 = .ok (.invokevirtual 187, 3) := dk_182 0 187 (dk_at dksX0_state_1 8 rfl rfl)
theorem dX0_state_35 : decode cX0_state 35 = .ok (.ireturn, 1) := dk_172 (dk_at dksX0_state_1 11 rfl rfl)
theorem dX0_state_36 : decode cX0_state 36 = .ok (.astore_n 3, 1) := dk_78 (dk_at dksX0_state_1 12 rfl rfl)
theorem dX0_state_37 : decode cX0_state 37 = .ok (.aload_n 0, 1) := dk_42 (dk_at dksX0_state_1 13 rfl rfl)
theorem dX0_state_38 : decode cX0_state 38 = .ok (.aload_n 3, 1) := dk_45 (dk_at dksX0_state_1 14 rfl rfl)
theorem dX0_state_39 : decode cX0_state 39 = .ok (.invokevirtual 191, 3) := dk_182 0 191 (dk_at dksX0_state_1 15 rfl rfl)
theorem dX0_state_42 : decode cX0_state 42 = .ok (.ireturn, 1) := dk_172 (dk_at dksX0_state_1 18 rfl rfl)
abbrev cX0_isRule : ByteArray := prog_1_method_3_code
def yX0_isRule : MethodName := ⟨RX0, "isRule", "(I)Z"⟩
def dkwX0_isRule_0 : List UInt8 := [26, 3, 4, 184, 0, 56, 172]
abbrev dktX0_isRule_0 : List UInt8 := dkwX0_isRule_0 ++ []
theorem dksX0_isRule_0 : cX0_isRule.data.toList.drop 0 = dktX0_isRule_0 := by decide +kernel
theorem dX0_isRule_0 : decode cX0_isRule 0 = .ok (.iload_n 0, 1) := dk_26 (dk_at dksX0_isRule_0 0 rfl rfl)
theorem dX0_isRule_1 : decode cX0_isRule 1 = .ok (.iconst 0, 1) := dk_3 (dk_at dksX0_isRule_0 1 rfl rfl)
theorem dX0_isRule_2 : decode cX0_isRule 2 = .ok (.iconst 1, 1) := dk_4 (dk_at dksX0_isRule_0 2 rfl rfl)
theorem dX0_isRule_3 : decode cX0_isRule 3 = .ok (.invokestatic 56, 3) := dk_184 0 56 (dk_at dksX0_isRule_0 3 rfl rfl)
theorem dX0_isRule_6 : decode cX0_isRule 6 = .ok (.ireturn, 1) := dk_172 (dk_at dksX0_isRule_0 6 rfl rfl)
abbrev cX0_isIn : ByteArray := prog_1_method_2_code
def yX0_isIn : MethodName := ⟨RX0, "isIn", "(III)Z"⟩
def dkwX0_isIn_0 : List UInt8 := [26, 27, 161, 0, 12, 26, 28, 163, 0, 7, 4, 167, 0, 4, 3, 172]
abbrev dktX0_isIn_0 : List UInt8 := dkwX0_isIn_0 ++ []
theorem dksX0_isIn_0 : cX0_isIn.data.toList.drop 0 = dktX0_isIn_0 := by decide +kernel
theorem dX0_isIn_0 : decode cX0_isIn 0 = .ok (.iload_n 0, 1) := dk_26 (dk_at dksX0_isIn_0 0 rfl rfl)
theorem dX0_isIn_1 : decode cX0_isIn 1 = .ok (.iload_n 1, 1) := dk_27 (dk_at dksX0_isIn_0 1 rfl rfl)
theorem dX0_isIn_2 : decode cX0_isIn 2 = .ok (.if_icmp .lt 12, 3) := dk_161 0 12 (dk_at dksX0_isIn_0 2 rfl rfl)
theorem dX0_isIn_5 : decode cX0_isIn 5 = .ok (.iload_n 0, 1) := dk_26 (dk_at dksX0_isIn_0 5 rfl rfl)
theorem dX0_isIn_6 : decode cX0_isIn 6 = .ok (.iload_n 2, 1) := dk_28 (dk_at dksX0_isIn_0 6 rfl rfl)
theorem dX0_isIn_7 : decode cX0_isIn 7 = .ok (.if_icmp .gt 7, 3) := dk_163 0 7 (dk_at dksX0_isIn_0 7 rfl rfl)
theorem dX0_isIn_10 : decode cX0_isIn 10 = .ok (.iconst 1, 1) := dk_4 (dk_at dksX0_isIn_0 10 rfl rfl)
theorem dX0_isIn_11 : decode cX0_isIn 11 = .ok (.goto 4, 3) := dk_167 0 4 (dk_at dksX0_isIn_0 11 rfl rfl)
theorem dX0_isIn_14 : decode cX0_isIn 14 = .ok (.iconst 0, 1) := dk_3 (dk_at dksX0_isIn_0 14 rfl rfl)
theorem dX0_isIn_15 : decode cX0_isIn 15 = .ok (.ireturn, 1) := dk_172 (dk_at dksX0_isIn_0 15 rfl rfl)
abbrev cX0_refuse : ByteArray := prog_1_method_6_code
def yX0_refuse : MethodName := ⟨RX0, "refuse", "(ZII)V"⟩
def dkwX0_refuse_0 : List UInt8 := [26, 153, 0, 13, 187, 0, 60, 89, 27, 28, 183, 0, 62, 191, 177]
abbrev dktX0_refuse_0 : List UInt8 := dkwX0_refuse_0 ++ []
theorem dksX0_refuse_0 : cX0_refuse.data.toList.drop 0 = dktX0_refuse_0 := by decide +kernel
theorem dX0_refuse_0 : decode cX0_refuse 0 = .ok (.iload_n 0, 1) := dk_26 (dk_at dksX0_refuse_0 0 rfl rfl)
theorem dX0_refuse_1 : decode cX0_refuse 1 = .ok (.ifCond .eq 13, 3) := dk_153 0 13 (dk_at dksX0_refuse_0 1 rfl rfl)
theorem dX0_refuse_4 : decode cX0_refuse 4 = .ok (.new 60, 3) := dk_187 0 60 (dk_at dksX0_refuse_0 4 rfl rfl)
theorem dX0_refuse_7 : decode cX0_refuse 7 = .ok (.dup, 1) := dk_89 (dk_at dksX0_refuse_0 7 rfl rfl)
theorem dX0_refuse_8 : decode cX0_refuse 8 = .ok (.iload_n 1, 1) := dk_27 (dk_at dksX0_refuse_0 8 rfl rfl)
theorem dX0_refuse_9 : decode cX0_refuse 9 = .ok (.iload_n 2, 1) := dk_28 (dk_at dksX0_refuse_0 9 rfl rfl)
theorem dX0_refuse_10 : decode cX0_refuse 10 = .ok (.invokespecial 62, 3) := dk_183 0 62 (dk_at dksX0_refuse_0 10 rfl rfl)
theorem dX0_refuse_13 : decode cX0_refuse 13 = .ok (.athrow, 1) := dk_191 (dk_at dksX0_refuse_0 13 rfl rfl)
theorem dX0_refuse_14 : decode cX0_refuse 14 = .ok (.return_, 1) := dk_177 (dk_at dksX0_refuse_0 14 rfl rfl)
abbrev cX0_changed : ByteArray := prog_1_method_16_code
def yX0_changed : MethodName := ⟨RX0, "changed", "(LChantRules$Choir;I)I"⟩
def dkwX0_changed_1 : List UInt8 := [182, 0, 166, 87, 28, 172]
abbrev dktX0_changed_1 : List UInt8 := dkwX0_changed_1 ++ []
def dkwX0_changed_0 : List UInt8 := [42, 180, 0, 25, 43, 182, 0, 159, 42, 180, 0, 25, 182, 0, 163, 16, 8, 164, 0, 11, 42, 180, 0, 25]
abbrev dktX0_changed_0 : List UInt8 := dkwX0_changed_0 ++ dktX0_changed_1
theorem dksX0_changed_0 : cX0_changed.data.toList.drop 0 = dktX0_changed_0 := by decide +kernel
theorem dksX0_changed_1 : cX0_changed.data.toList.drop 24 = dktX0_changed_1 := dk_seg dksX0_changed_0 24 rfl rfl
theorem dX0_changed_0 : decode cX0_changed 0 = .ok (.aload_n 0, 1) := dk_42 (dk_at dksX0_changed_0 0 rfl rfl)
theorem dX0_changed_1 : decode cX0_changed 1 = .ok (.getfield 25, 3) := dk_180 0 25 (dk_at dksX0_changed_0 1 rfl rfl)
theorem dX0_changed_4 : decode cX0_changed 4 = .ok (.aload_n 1, 1) := dk_43 (dk_at dksX0_changed_0 4 rfl rfl)
theorem dX0_changed_5 : decode cX0_changed 5 = .ok (.invokevirtual 159, 3) := dk_182 0 159 (dk_at dksX0_changed_0 5 rfl rfl)
theorem dX0_changed_8 : decode cX0_changed 8 = .ok (.aload_n 0, 1) := dk_42 (dk_at dksX0_changed_0 8 rfl rfl)
theorem dX0_changed_9 : decode cX0_changed 9 = .ok (.getfield 25, 3) := dk_180 0 25 (dk_at dksX0_changed_0 9 rfl rfl)
theorem dX0_changed_12 : decode cX0_changed 12 = .ok (.invokevirtual 163, 3) := dk_182 0 163 (dk_at dksX0_changed_0 12 rfl rfl)
theorem dX0_changed_15 : decode cX0_changed 15 = .ok (.bipush 8, 2) := dk_16 8 (dk_at dksX0_changed_0 15 rfl rfl)
theorem dX0_changed_17 : decode cX0_changed 17 = .ok (.if_icmp .le 11, 3) := dk_164 0 11 (dk_at dksX0_changed_0 17 rfl rfl)
theorem dX0_changed_20 : decode cX0_changed 20 = .ok (.aload_n 0, 1) := dk_42 (dk_at dksX0_changed_0 20 rfl rfl)
theorem dX0_changed_21 : decode cX0_changed 21 = .ok (.getfield 25, 3) := dk_180 0 25 (dk_at dksX0_changed_0 21 rfl rfl)
theorem dX0_changed_24 : decode cX0_changed 24 = .ok (.invokevirtual 166, 3) := dk_182 0 166 (dk_at dksX0_changed_1 0 rfl rfl)
theorem dX0_changed_27 : decode cX0_changed 27 = .ok (.pop, 1) := dk_87 (dk_at dksX0_changed_1 3 rfl rfl)
theorem dX0_changed_28 : decode cX0_changed 28 = .ok (.iload_n 2, 1) := dk_28 (dk_at dksX0_changed_1 4 rfl rfl)
theorem dX0_changed_29 : decode cX0_changed 29 = .ok (.ireturn, 1) := dk_172 (dk_at dksX0_changed_1 5 rfl rfl)
abbrev cX0_refused : ByteArray := prog_1_method_7_code
def yX0_refused : MethodName := ⟨RX0, "refused", "(LChantRules$Refused;)I"⟩
def dkwX0_refused_2 : List UInt8 := [42, 44, 180, 0, 70, 181, 0, 81, 16, 242, 172]
abbrev dktX0_refused_2 : List UInt8 := dkwX0_refused_2 ++ []
def dkwX0_refused_1 : List UInt8 := [182, 0, 77, 78, 45, 193, 0, 60, 153, 0, 24, 45, 192, 0, 60, 77, 42, 44, 180, 0, 65, 181, 0, 74]
abbrev dktX0_refused_1 : List UInt8 := dkwX0_refused_1 ++ dktX0_refused_2
def dkwX0_refused_0 : List UInt8 := [42, 43, 180, 0, 65, 181, 0, 69, 42, 43, 180, 0, 70, 181, 0, 73, 42, 3, 181, 0, 74, 43]
abbrev dktX0_refused_0 : List UInt8 := dkwX0_refused_0 ++ dktX0_refused_1
theorem dksX0_refused_0 : cX0_refused.data.toList.drop 0 = dktX0_refused_0 := by decide +kernel
theorem dksX0_refused_1 : cX0_refused.data.toList.drop 22 = dktX0_refused_1 := dk_seg dksX0_refused_0 22 rfl rfl
theorem dksX0_refused_2 : cX0_refused.data.toList.drop 46 = dktX0_refused_2 := dk_seg dksX0_refused_1 24 rfl rfl
theorem dX0_refused_0 : decode cX0_refused 0 = .ok (.aload_n 0, 1) := dk_42 (dk_at dksX0_refused_0 0 rfl rfl)
theorem dX0_refused_1 : decode cX0_refused 1 = .ok (.aload_n 1, 1) := dk_43 (dk_at dksX0_refused_0 1 rfl rfl)
theorem dX0_refused_2 : decode cX0_refused 2 = .ok (.getfield 65, 3) := dk_180 0 65 (dk_at dksX0_refused_0 2 rfl rfl)
theorem dX0_refused_5 : decode cX0_refused 5 = .ok (.putfield 69, 3) := dk_181 0 69 (dk_at dksX0_refused_0 5 rfl rfl)
theorem dX0_refused_8 : decode cX0_refused 8 = .ok (.aload_n 0, 1) := dk_42 (dk_at dksX0_refused_0 8 rfl rfl)
theorem dX0_refused_9 : decode cX0_refused 9 = .ok (.aload_n 1, 1) := dk_43 (dk_at dksX0_refused_0 9 rfl rfl)
theorem dX0_refused_10 : decode cX0_refused 10 = .ok (.getfield 70, 3) := dk_180 0 70 (dk_at dksX0_refused_0 10 rfl rfl)
theorem dX0_refused_13 : decode cX0_refused 13 = .ok (.putfield 73, 3) := dk_181 0 73 (dk_at dksX0_refused_0 13 rfl rfl)
theorem dX0_refused_16 : decode cX0_refused 16 = .ok (.aload_n 0, 1) := dk_42 (dk_at dksX0_refused_0 16 rfl rfl)
theorem dX0_refused_17 : decode cX0_refused 17 = .ok (.iconst 0, 1) := dk_3 (dk_at dksX0_refused_0 17 rfl rfl)
theorem dX0_refused_18 : decode cX0_refused 18 = .ok (.putfield 74, 3) := dk_181 0 74 (dk_at dksX0_refused_0 18 rfl rfl)
theorem dX0_refused_21 : decode cX0_refused 21 = .ok (.aload_n 1, 1) := dk_43 (dk_at dksX0_refused_0 21 rfl rfl)
theorem dX0_refused_22 : decode cX0_refused 22 = .ok (.invokevirtual 77, 3) := dk_182 0 77 (dk_at dksX0_refused_1 0 rfl rfl)
theorem dX0_refused_25 : decode cX0_refused 25 = .ok (.astore_n 3, 1) := dk_78 (dk_at dksX0_refused_1 3 rfl rfl)
theorem dX0_refused_26 : decode cX0_refused 26 = .ok (.aload_n 3, 1) := dk_45 (dk_at dksX0_refused_1 4 rfl rfl)
theorem dX0_refused_27 : decode cX0_refused 27 = .ok (.instanceof 60, 3) := dk_193 0 60 (dk_at dksX0_refused_1 5 rfl rfl)
theorem dX0_refused_30 : decode cX0_refused 30 = .ok (.ifCond .eq 24, 3) := dk_153 0 24 (dk_at dksX0_refused_1 8 rfl rfl)
theorem dX0_refused_33 : decode cX0_refused 33 = .ok (.aload_n 3, 1) := dk_45 (dk_at dksX0_refused_1 11 rfl rfl)
theorem dX0_refused_34 : decode cX0_refused 34 = .ok (.checkcast 60, 3) := dk_192 0 60 (dk_at dksX0_refused_1 12 rfl rfl)
theorem dX0_refused_37 : decode cX0_refused 37 = .ok (.astore_n 2, 1) := dk_77 (dk_at dksX0_refused_1 15 rfl rfl)
theorem dX0_refused_38 : decode cX0_refused 38 = .ok (.aload_n 0, 1) := dk_42 (dk_at dksX0_refused_1 16 rfl rfl)
theorem dX0_refused_39 : decode cX0_refused 39 = .ok (.aload_n 2, 1) := dk_44 (dk_at dksX0_refused_1 17 rfl rfl)
theorem dX0_refused_40 : decode cX0_refused 40 = .ok (.getfield 65, 3) := dk_180 0 65 (dk_at dksX0_refused_1 18 rfl rfl)
theorem dX0_refused_43 : decode cX0_refused 43 = .ok (.putfield 74, 3) := dk_181 0 74 (dk_at dksX0_refused_1 21 rfl rfl)
theorem dX0_refused_46 : decode cX0_refused 46 = .ok (.aload_n 0, 1) := dk_42 (dk_at dksX0_refused_2 0 rfl rfl)
theorem dX0_refused_47 : decode cX0_refused 47 = .ok (.aload_n 2, 1) := dk_44 (dk_at dksX0_refused_2 1 rfl rfl)
theorem dX0_refused_48 : decode cX0_refused 48 = .ok (.getfield 70, 3) := dk_180 0 70 (dk_at dksX0_refused_2 2 rfl rfl)
theorem dX0_refused_51 : decode cX0_refused 51 = .ok (.putfield 81, 3) := dk_181 0 81 (dk_at dksX0_refused_2 5 rfl rfl)
theorem dX0_refused_54 : decode cX0_refused 54 = .ok (.bipush (-14), 2) := dk_16 242 (dk_at dksX0_refused_2 8 rfl rfl)
theorem dX0_refused_56 : decode cX0_refused 56 = .ok (.ireturn, 1) := dk_172 (dk_at dksX0_refused_2 10 rfl rfl)
abbrev cX0_end : ByteArray := prog_1_method_18_code
def yX0_end : MethodName := ⟨RX0, "end", "(III)I"⟩
def dkwX0_end_2 : List UInt8 := [180, 0, 178, 27, 50, 28, 29, 182, 0, 202, 182, 0, 187, 172, 58, 5, 42, 25, 5, 182, 0, 191, 172]
abbrev dktX0_end_2 : List UInt8 := dkwX0_end_2 ++ []
def dkwX0_end_1 : List UInt8 := [154, 0, 6, 16, 244, 172, 42, 180, 0, 18, 182, 0, 174, 58, 4, 42, 25, 4, 42, 180, 0, 18]
abbrev dktX0_end_1 : List UInt8 := dkwX0_end_1 ++ dktX0_end_2
def dkwX0_end_0 : List UInt8 := [42, 180, 0, 18, 27, 28, 182, 0, 195, 154, 0, 6, 16, 245, 172, 29, 2, 159, 0, 13, 29, 184, 0, 199]
abbrev dktX0_end_0 : List UInt8 := dkwX0_end_0 ++ dktX0_end_1
theorem dksX0_end_0 : cX0_end.data.toList.drop 0 = dktX0_end_0 := by decide +kernel
theorem dksX0_end_1 : cX0_end.data.toList.drop 24 = dktX0_end_1 := dk_seg dksX0_end_0 24 rfl rfl
theorem dksX0_end_2 : cX0_end.data.toList.drop 46 = dktX0_end_2 := dk_seg dksX0_end_1 22 rfl rfl
theorem dX0_end_0 : decode cX0_end 0 = .ok (.aload_n 0, 1) := dk_42 (dk_at dksX0_end_0 0 rfl rfl)
theorem dX0_end_1 : decode cX0_end 1 = .ok (.getfield 18, 3) := dk_180 0 18 (dk_at dksX0_end_0 1 rfl rfl)
theorem dX0_end_4 : decode cX0_end 4 = .ok (.iload_n 1, 1) := dk_27 (dk_at dksX0_end_0 4 rfl rfl)
theorem dX0_end_5 : decode cX0_end 5 = .ok (.iload_n 2, 1) := dk_28 (dk_at dksX0_end_0 5 rfl rfl)
theorem dX0_end_6 : decode cX0_end 6 = .ok (.invokevirtual 195, 3) := dk_182 0 195 (dk_at dksX0_end_0 6 rfl rfl)
theorem dX0_end_9 : decode cX0_end 9 = .ok (.ifCond .ne 6, 3) := dk_154 0 6 (dk_at dksX0_end_0 9 rfl rfl)
theorem dX0_end_12 : decode cX0_end 12 = .ok (.bipush (-11), 2) := dk_16 245 (dk_at dksX0_end_0 12 rfl rfl)
theorem dX0_end_14 : decode cX0_end 14 = .ok (.ireturn, 1) := dk_172 (dk_at dksX0_end_0 14 rfl rfl)
theorem dX0_end_15 : decode cX0_end 15 = .ok (.iload_n 3, 1) := dk_29 (dk_at dksX0_end_0 15 rfl rfl)
theorem dX0_end_16 : decode cX0_end 16 = .ok (.iconst (-1), 1) := dk_2 (dk_at dksX0_end_0 16 rfl rfl)
theorem dX0_end_17 : decode cX0_end 17 = .ok (.if_icmp .eq 13, 3) := dk_159 0 13 (dk_at dksX0_end_0 17 rfl rfl)
theorem dX0_end_20 : decode cX0_end 20 = .ok (.iload_n 3, 1) := dk_29 (dk_at dksX0_end_0 20 rfl rfl)
theorem dX0_end_21 : decode cX0_end 21 = .ok (.invokestatic 199, 3) := dk_184 0 199 (dk_at dksX0_end_0 21 rfl rfl)
theorem dX0_end_24 : decode cX0_end 24 = .ok (.ifCond .ne 6, 3) := dk_154 0 6 (dk_at dksX0_end_1 0 rfl rfl)
theorem dX0_end_27 : decode cX0_end 27 = .ok (.bipush (-12), 2) := dk_16 244 (dk_at dksX0_end_1 3 rfl rfl)
theorem dX0_end_29 : decode cX0_end 29 = .ok (.ireturn, 1) := dk_172 (dk_at dksX0_end_1 5 rfl rfl)
theorem dX0_end_30 : decode cX0_end 30 = .ok (.aload_n 0, 1) := dk_42 (dk_at dksX0_end_1 6 rfl rfl)
theorem dX0_end_31 : decode cX0_end 31 = .ok (.getfield 18, 3) := dk_180 0 18 (dk_at dksX0_end_1 7 rfl rfl)
theorem dX0_end_34 : decode cX0_end 34 = .ok (.invokevirtual 174, 3) := dk_182 0 174 (dk_at dksX0_end_1 10 rfl rfl)
theorem dX0_end_37 : decode cX0_end 37 = .ok (.astore 4, 2) := dk_58 4 (dk_at dksX0_end_1 13 rfl rfl)
theorem dX0_end_39 : decode cX0_end 39 = .ok (.aload_n 0, 1) := dk_42 (dk_at dksX0_end_1 15 rfl rfl)
theorem dX0_end_40 : decode cX0_end 40 = .ok (.aload 4, 2) := dk_25 4 (dk_at dksX0_end_1 16 rfl rfl)
theorem dX0_end_42 : decode cX0_end 42 = .ok (.aload_n 0, 1) := dk_42 (dk_at dksX0_end_1 18 rfl rfl)
theorem dX0_end_43 : decode cX0_end 43 = .ok (.getfield 18, 3) := dk_180 0 18 (dk_at dksX0_end_1 19 rfl rfl)
theorem dX0_end_46 : decode cX0_end 46 = .ok (.getfield 178, 3) := dk_180 0 178 (dk_at dksX0_end_2 0 rfl rfl)
theorem dX0_end_49 : decode cX0_end 49 = .ok (.iload_n 1, 1) := dk_27 (dk_at dksX0_end_2 3 rfl rfl)
theorem dX0_end_50 : decode cX0_end 50 = .ok (.aaload, 1) := dk_50 (dk_at dksX0_end_2 4 rfl rfl)
theorem dX0_end_51 : decode cX0_end 51 = .ok (.iload_n 2, 1) := dk_28 (dk_at dksX0_end_2 5 rfl rfl)
theorem dX0_end_52 : decode cX0_end 52 = .ok (.iload_n 3, 1) := dk_29 (dk_at dksX0_end_2 6 rfl rfl)
theorem dX0_end_53 : decode cX0_end 53 = .ok (.invokevirtual 202, 3) := dk_182 0 202 (dk_at dksX0_end_2 7 rfl rfl)
theorem dX0_end_56 : decode cX0_end 56 = .ok (.invokevirtual 187, 3) := dk_182 0 187 (dk_at dksX0_end_2 10 rfl rfl)
theorem dX0_end_59 : decode cX0_end 59 = .ok (.ireturn, 1) := dk_172 (dk_at dksX0_end_2 13 rfl rfl)
theorem dX0_end_60 : decode cX0_end 60 = .ok (.astore 5, 2) := dk_58 5 (dk_at dksX0_end_2 14 rfl rfl)
theorem dX0_end_62 : decode cX0_end 62 = .ok (.aload_n 0, 1) := dk_42 (dk_at dksX0_end_2 16 rfl rfl)
theorem dX0_end_63 : decode cX0_end 63 = .ok (.aload 5, 2) := dk_25 5 (dk_at dksX0_end_2 17 rfl rfl)
theorem dX0_end_65 : decode cX0_end 65 = .ok (.invokevirtual 191, 3) := dk_182 0 191 (dk_at dksX0_end_2 19 rfl rfl)
theorem dX0_end_68 : decode cX0_end 68 = .ok (.ireturn, 1) := dk_172 (dk_at dksX0_end_2 22 rfl rfl)
abbrev cX0_isWeight : ByteArray := prog_1_method_4_code
def yX0_isWeight : MethodName := ⟨RX0, "isWeight", "(I)Z"⟩
def dkwX0_isWeight_0 : List UInt8 := [26, 3, 16, 9, 184, 0, 56, 172]
abbrev dktX0_isWeight_0 : List UInt8 := dkwX0_isWeight_0 ++ []
theorem dksX0_isWeight_0 : cX0_isWeight.data.toList.drop 0 = dktX0_isWeight_0 := by decide +kernel
theorem dX0_isWeight_0 : decode cX0_isWeight 0 = .ok (.iload_n 0, 1) := dk_26 (dk_at dksX0_isWeight_0 0 rfl rfl)
theorem dX0_isWeight_1 : decode cX0_isWeight 1 = .ok (.iconst 0, 1) := dk_3 (dk_at dksX0_isWeight_0 1 rfl rfl)
theorem dX0_isWeight_2 : decode cX0_isWeight 2 = .ok (.bipush 9, 2) := dk_16 9 (dk_at dksX0_isWeight_0 2 rfl rfl)
theorem dX0_isWeight_4 : decode cX0_isWeight 4 = .ok (.invokestatic 56, 3) := dk_184 0 56 (dk_at dksX0_isWeight_0 4 rfl rfl)
theorem dX0_isWeight_7 : decode cX0_isWeight 7 = .ok (.ireturn, 1) := dk_172 (dk_at dksX0_isWeight_0 7 rfl rfl)
abbrev cX0_arc : ByteArray := prog_1_method_19_code
def yX0_arc : MethodName := ⟨RX0, "arc", "(IIIIII)I"⟩
def dkwX0_arc_3 : List UInt8 := [21, 6, 184, 0, 123, 182, 0, 209, 182, 0, 187, 172, 58, 8, 42, 25, 8, 182, 0, 191, 172]
abbrev dktX0_arc_3 : List UInt8 := dkwX0_arc_3 ++ []
def dkwX0_arc_2 : List UInt8 := [42, 180, 0, 18, 182, 0, 174, 58, 7, 42, 25, 7, 42, 180, 0, 18, 27, 28, 29, 21, 4, 21, 5]
abbrev dktX0_arc_2 : List UInt8 := dkwX0_arc_2 ++ dktX0_arc_3
def dkwX0_arc_1 : List UInt8 := [16, 245, 172, 21, 4, 21, 5, 184, 0, 206, 153, 0, 11, 21, 6, 184, 0, 199, 154, 0, 6, 16, 244, 172]
abbrev dktX0_arc_1 : List UInt8 := dkwX0_arc_1 ++ dktX0_arc_2
def dkwX0_arc_0 : List UInt8 := [42, 180, 0, 18, 27, 28, 182, 0, 195, 153, 0, 15, 42, 180, 0, 18, 27, 29, 182, 0, 195, 154, 0, 6]
abbrev dktX0_arc_0 : List UInt8 := dkwX0_arc_0 ++ dktX0_arc_1
theorem dksX0_arc_0 : cX0_arc.data.toList.drop 0 = dktX0_arc_0 := by decide +kernel
theorem dksX0_arc_1 : cX0_arc.data.toList.drop 24 = dktX0_arc_1 := dk_seg dksX0_arc_0 24 rfl rfl
theorem dksX0_arc_2 : cX0_arc.data.toList.drop 48 = dktX0_arc_2 := dk_seg dksX0_arc_1 24 rfl rfl
theorem dksX0_arc_3 : cX0_arc.data.toList.drop 71 = dktX0_arc_3 := dk_seg dksX0_arc_2 23 rfl rfl
theorem dX0_arc_0 : decode cX0_arc 0 = .ok (.aload_n 0, 1) := dk_42 (dk_at dksX0_arc_0 0 rfl rfl)
theorem dX0_arc_1 : decode cX0_arc 1 = .ok (.getfield 18, 3) := dk_180 0 18 (dk_at dksX0_arc_0 1 rfl rfl)
theorem dX0_arc_4 : decode cX0_arc 4 = .ok (.iload_n 1, 1) := dk_27 (dk_at dksX0_arc_0 4 rfl rfl)
theorem dX0_arc_5 : decode cX0_arc 5 = .ok (.iload_n 2, 1) := dk_28 (dk_at dksX0_arc_0 5 rfl rfl)
theorem dX0_arc_6 : decode cX0_arc 6 = .ok (.invokevirtual 195, 3) := dk_182 0 195 (dk_at dksX0_arc_0 6 rfl rfl)
theorem dX0_arc_9 : decode cX0_arc 9 = .ok (.ifCond .eq 15, 3) := dk_153 0 15 (dk_at dksX0_arc_0 9 rfl rfl)
theorem dX0_arc_12 : decode cX0_arc 12 = .ok (.aload_n 0, 1) := dk_42 (dk_at dksX0_arc_0 12 rfl rfl)
theorem dX0_arc_13 : decode cX0_arc 13 = .ok (.getfield 18, 3) := dk_180 0 18 (dk_at dksX0_arc_0 13 rfl rfl)
theorem dX0_arc_16 : decode cX0_arc 16 = .ok (.iload_n 1, 1) := dk_27 (dk_at dksX0_arc_0 16 rfl rfl)
theorem dX0_arc_17 : decode cX0_arc 17 = .ok (.iload_n 3, 1) := dk_29 (dk_at dksX0_arc_0 17 rfl rfl)
theorem dX0_arc_18 : decode cX0_arc 18 = .ok (.invokevirtual 195, 3) := dk_182 0 195 (dk_at dksX0_arc_0 18 rfl rfl)
theorem dX0_arc_21 : decode cX0_arc 21 = .ok (.ifCond .ne 6, 3) := dk_154 0 6 (dk_at dksX0_arc_0 21 rfl rfl)
theorem dX0_arc_24 : decode cX0_arc 24 = .ok (.bipush (-11), 2) := dk_16 245 (dk_at dksX0_arc_1 0 rfl rfl)
theorem dX0_arc_26 : decode cX0_arc 26 = .ok (.ireturn, 1) := dk_172 (dk_at dksX0_arc_1 2 rfl rfl)
theorem dX0_arc_27 : decode cX0_arc 27 = .ok (.iload 4, 2) := dk_21 4 (dk_at dksX0_arc_1 3 rfl rfl)
theorem dX0_arc_29 : decode cX0_arc 29 = .ok (.iload 5, 2) := dk_21 5 (dk_at dksX0_arc_1 5 rfl rfl)
theorem dX0_arc_31 : decode cX0_arc 31 = .ok (.invokestatic 206, 3) := dk_184 0 206 (dk_at dksX0_arc_1 7 rfl rfl)
theorem dX0_arc_34 : decode cX0_arc 34 = .ok (.ifCond .eq 11, 3) := dk_153 0 11 (dk_at dksX0_arc_1 10 rfl rfl)
theorem dX0_arc_37 : decode cX0_arc 37 = .ok (.iload 6, 2) := dk_21 6 (dk_at dksX0_arc_1 13 rfl rfl)
theorem dX0_arc_39 : decode cX0_arc 39 = .ok (.invokestatic 199, 3) := dk_184 0 199 (dk_at dksX0_arc_1 15 rfl rfl)
theorem dX0_arc_42 : decode cX0_arc 42 = .ok (.ifCond .ne 6, 3) := dk_154 0 6 (dk_at dksX0_arc_1 18 rfl rfl)
theorem dX0_arc_45 : decode cX0_arc 45 = .ok (.bipush (-12), 2) := dk_16 244 (dk_at dksX0_arc_1 21 rfl rfl)
theorem dX0_arc_47 : decode cX0_arc 47 = .ok (.ireturn, 1) := dk_172 (dk_at dksX0_arc_1 23 rfl rfl)
theorem dX0_arc_48 : decode cX0_arc 48 = .ok (.aload_n 0, 1) := dk_42 (dk_at dksX0_arc_2 0 rfl rfl)
theorem dX0_arc_49 : decode cX0_arc 49 = .ok (.getfield 18, 3) := dk_180 0 18 (dk_at dksX0_arc_2 1 rfl rfl)
theorem dX0_arc_52 : decode cX0_arc 52 = .ok (.invokevirtual 174, 3) := dk_182 0 174 (dk_at dksX0_arc_2 4 rfl rfl)
theorem dX0_arc_55 : decode cX0_arc 55 = .ok (.astore 7, 2) := dk_58 7 (dk_at dksX0_arc_2 7 rfl rfl)
theorem dX0_arc_57 : decode cX0_arc 57 = .ok (.aload_n 0, 1) := dk_42 (dk_at dksX0_arc_2 9 rfl rfl)
theorem dX0_arc_58 : decode cX0_arc 58 = .ok (.aload 7, 2) := dk_25 7 (dk_at dksX0_arc_2 10 rfl rfl)
theorem dX0_arc_60 : decode cX0_arc 60 = .ok (.aload_n 0, 1) := dk_42 (dk_at dksX0_arc_2 12 rfl rfl)
theorem dX0_arc_61 : decode cX0_arc 61 = .ok (.getfield 18, 3) := dk_180 0 18 (dk_at dksX0_arc_2 13 rfl rfl)
theorem dX0_arc_64 : decode cX0_arc 64 = .ok (.iload_n 1, 1) := dk_27 (dk_at dksX0_arc_2 16 rfl rfl)
theorem dX0_arc_65 : decode cX0_arc 65 = .ok (.iload_n 2, 1) := dk_28 (dk_at dksX0_arc_2 17 rfl rfl)
theorem dX0_arc_66 : decode cX0_arc 66 = .ok (.iload_n 3, 1) := dk_29 (dk_at dksX0_arc_2 18 rfl rfl)
theorem dX0_arc_67 : decode cX0_arc 67 = .ok (.iload 4, 2) := dk_21 4 (dk_at dksX0_arc_2 19 rfl rfl)
theorem dX0_arc_69 : decode cX0_arc 69 = .ok (.iload 5, 2) := dk_21 5 (dk_at dksX0_arc_2 21 rfl rfl)
theorem dX0_arc_71 : decode cX0_arc 71 = .ok (.iload 6, 2) := dk_21 6 (dk_at dksX0_arc_3 0 rfl rfl)
theorem dX0_arc_73 : decode cX0_arc 73 = .ok (.invokestatic 123, 3) := dk_184 0 123 (dk_at dksX0_arc_3 2 rfl rfl)
theorem dX0_arc_76 : decode cX0_arc 76 = .ok (.invokevirtual 209, 3) := dk_182 0 209 (dk_at dksX0_arc_3 5 rfl rfl)
theorem dX0_arc_79 : decode cX0_arc 79 = .ok (.invokevirtual 187, 3) := dk_182 0 187 (dk_at dksX0_arc_3 8 rfl rfl)
theorem dX0_arc_82 : decode cX0_arc 82 = .ok (.ireturn, 1) := dk_172 (dk_at dksX0_arc_3 11 rfl rfl)
theorem dX0_arc_83 : decode cX0_arc 83 = .ok (.astore 8, 2) := dk_58 8 (dk_at dksX0_arc_3 12 rfl rfl)
theorem dX0_arc_85 : decode cX0_arc 85 = .ok (.aload_n 0, 1) := dk_42 (dk_at dksX0_arc_3 14 rfl rfl)
theorem dX0_arc_86 : decode cX0_arc 86 = .ok (.aload 8, 2) := dk_25 8 (dk_at dksX0_arc_3 15 rfl rfl)
theorem dX0_arc_88 : decode cX0_arc 88 = .ok (.invokevirtual 191, 3) := dk_182 0 191 (dk_at dksX0_arc_3 17 rfl rfl)
theorem dX0_arc_91 : decode cX0_arc 91 = .ok (.ireturn, 1) := dk_172 (dk_at dksX0_arc_3 20 rfl rfl)
abbrev cX0_areSounds : ByteArray := prog_1_method_5_code
def yX0_areSounds : MethodName := ⟨RX0, "areSounds", "(II)Z"⟩
def dkwX0_areSounds_0 : List UInt8 := [26, 3, 7, 184, 0, 56, 153, 0, 16, 27, 3, 7, 184, 0, 56, 153, 0, 7, 4, 167, 0, 4, 3, 172]
abbrev dktX0_areSounds_0 : List UInt8 := dkwX0_areSounds_0 ++ []
theorem dksX0_areSounds_0 : cX0_areSounds.data.toList.drop 0 = dktX0_areSounds_0 := by decide +kernel
theorem dX0_areSounds_0 : decode cX0_areSounds 0 = .ok (.iload_n 0, 1) := dk_26 (dk_at dksX0_areSounds_0 0 rfl rfl)
theorem dX0_areSounds_1 : decode cX0_areSounds 1 = .ok (.iconst 0, 1) := dk_3 (dk_at dksX0_areSounds_0 1 rfl rfl)
theorem dX0_areSounds_2 : decode cX0_areSounds 2 = .ok (.iconst 4, 1) := dk_7 (dk_at dksX0_areSounds_0 2 rfl rfl)
theorem dX0_areSounds_3 : decode cX0_areSounds 3 = .ok (.invokestatic 56, 3) := dk_184 0 56 (dk_at dksX0_areSounds_0 3 rfl rfl)
theorem dX0_areSounds_6 : decode cX0_areSounds 6 = .ok (.ifCond .eq 16, 3) := dk_153 0 16 (dk_at dksX0_areSounds_0 6 rfl rfl)
theorem dX0_areSounds_9 : decode cX0_areSounds 9 = .ok (.iload_n 1, 1) := dk_27 (dk_at dksX0_areSounds_0 9 rfl rfl)
theorem dX0_areSounds_10 : decode cX0_areSounds 10 = .ok (.iconst 0, 1) := dk_3 (dk_at dksX0_areSounds_0 10 rfl rfl)
theorem dX0_areSounds_11 : decode cX0_areSounds 11 = .ok (.iconst 4, 1) := dk_7 (dk_at dksX0_areSounds_0 11 rfl rfl)
theorem dX0_areSounds_12 : decode cX0_areSounds 12 = .ok (.invokestatic 56, 3) := dk_184 0 56 (dk_at dksX0_areSounds_0 12 rfl rfl)
theorem dX0_areSounds_15 : decode cX0_areSounds 15 = .ok (.ifCond .eq 7, 3) := dk_153 0 7 (dk_at dksX0_areSounds_0 15 rfl rfl)
theorem dX0_areSounds_18 : decode cX0_areSounds 18 = .ok (.iconst 1, 1) := dk_4 (dk_at dksX0_areSounds_0 18 rfl rfl)
theorem dX0_areSounds_19 : decode cX0_areSounds 19 = .ok (.goto 4, 3) := dk_167 0 4 (dk_at dksX0_areSounds_0 19 rfl rfl)
theorem dX0_areSounds_22 : decode cX0_areSounds 22 = .ok (.iconst 0, 1) := dk_3 (dk_at dksX0_areSounds_0 22 rfl rfl)
theorem dX0_areSounds_23 : decode cX0_areSounds 23 = .ok (.ireturn, 1) := dk_172 (dk_at dksX0_areSounds_0 23 rfl rfl)
abbrev cX0_arcOf : ByteArray := prog_1_method_9_code
def yX0_arcOf : MethodName := ⟨RX0, "arcOf", "(IIIII)LChantRules$Arc;"⟩
def dkwX0_arcOf_1 : List UInt8 := [26, 27, 28, 29, 21, 4, 183, 0, 107, 176]
abbrev dktX0_arcOf_1 : List UInt8 := dkwX0_arcOf_1 ++ []
def dkwX0_arcOf_0 : List UInt8 := [28, 7, 160, 0, 18, 187, 0, 100, 89, 26, 27, 29, 21, 4, 183, 0, 102, 167, 0, 16, 187, 0, 105, 89]
abbrev dktX0_arcOf_0 : List UInt8 := dkwX0_arcOf_0 ++ dktX0_arcOf_1
theorem dksX0_arcOf_0 : cX0_arcOf.data.toList.drop 0 = dktX0_arcOf_0 := by decide +kernel
theorem dksX0_arcOf_1 : cX0_arcOf.data.toList.drop 24 = dktX0_arcOf_1 := dk_seg dksX0_arcOf_0 24 rfl rfl
theorem dX0_arcOf_0 : decode cX0_arcOf 0 = .ok (.iload_n 2, 1) := dk_28 (dk_at dksX0_arcOf_0 0 rfl rfl)
theorem dX0_arcOf_1 : decode cX0_arcOf 1 = .ok (.iconst 4, 1) := dk_7 (dk_at dksX0_arcOf_0 1 rfl rfl)
theorem dX0_arcOf_2 : decode cX0_arcOf 2 = .ok (.if_icmp .ne 18, 3) := dk_160 0 18 (dk_at dksX0_arcOf_0 2 rfl rfl)
theorem dX0_arcOf_5 : decode cX0_arcOf 5 = .ok (.new 100, 3) := dk_187 0 100 (dk_at dksX0_arcOf_0 5 rfl rfl)
theorem dX0_arcOf_8 : decode cX0_arcOf 8 = .ok (.dup, 1) := dk_89 (dk_at dksX0_arcOf_0 8 rfl rfl)
theorem dX0_arcOf_9 : decode cX0_arcOf 9 = .ok (.iload_n 0, 1) := dk_26 (dk_at dksX0_arcOf_0 9 rfl rfl)
theorem dX0_arcOf_10 : decode cX0_arcOf 10 = .ok (.iload_n 1, 1) := dk_27 (dk_at dksX0_arcOf_0 10 rfl rfl)
theorem dX0_arcOf_11 : decode cX0_arcOf 11 = .ok (.iload_n 3, 1) := dk_29 (dk_at dksX0_arcOf_0 11 rfl rfl)
theorem dX0_arcOf_12 : decode cX0_arcOf 12 = .ok (.iload 4, 2) := dk_21 4 (dk_at dksX0_arcOf_0 12 rfl rfl)
theorem dX0_arcOf_14 : decode cX0_arcOf 14 = .ok (.invokespecial 102, 3) := dk_183 0 102 (dk_at dksX0_arcOf_0 14 rfl rfl)
theorem dX0_arcOf_17 : decode cX0_arcOf 17 = .ok (.goto 16, 3) := dk_167 0 16 (dk_at dksX0_arcOf_0 17 rfl rfl)
theorem dX0_arcOf_20 : decode cX0_arcOf 20 = .ok (.new 105, 3) := dk_187 0 105 (dk_at dksX0_arcOf_0 20 rfl rfl)
theorem dX0_arcOf_23 : decode cX0_arcOf 23 = .ok (.dup, 1) := dk_89 (dk_at dksX0_arcOf_0 23 rfl rfl)
theorem dX0_arcOf_24 : decode cX0_arcOf 24 = .ok (.iload_n 0, 1) := dk_26 (dk_at dksX0_arcOf_1 0 rfl rfl)
theorem dX0_arcOf_25 : decode cX0_arcOf 25 = .ok (.iload_n 1, 1) := dk_27 (dk_at dksX0_arcOf_1 1 rfl rfl)
theorem dX0_arcOf_26 : decode cX0_arcOf 26 = .ok (.iload_n 2, 1) := dk_28 (dk_at dksX0_arcOf_1 2 rfl rfl)
theorem dX0_arcOf_27 : decode cX0_arcOf 27 = .ok (.iload_n 3, 1) := dk_29 (dk_at dksX0_arcOf_1 3 rfl rfl)
theorem dX0_arcOf_28 : decode cX0_arcOf 28 = .ok (.iload 4, 2) := dk_21 4 (dk_at dksX0_arcOf_1 4 rfl rfl)
theorem dX0_arcOf_30 : decode cX0_arcOf 30 = .ok (.invokespecial 107, 3) := dk_183 0 107 (dk_at dksX0_arcOf_1 6 rfl rfl)
theorem dX0_arcOf_33 : decode cX0_arcOf 33 = .ok (.areturn, 1) := dk_176 (dk_at dksX0_arcOf_1 9 rfl rfl)
abbrev cX0_areAlike : ByteArray := prog_1_method_12_code
def yX0_areAlike : MethodName := ⟨RX0, "areAlike", "(LChantRules$Arc;LChantRules$Arc;)Z"⟩
def dkwX0_areAlike_2 : List UInt8 := [185, 0, 120, 1, 0, 43, 185, 0, 120, 1, 0, 160, 0, 7, 4, 167, 0, 4, 3, 172]
abbrev dktX0_areAlike_2 : List UInt8 := dkwX0_areAlike_2 ++ []
def dkwX0_areAlike_1 : List UInt8 := [185, 0, 115, 1, 0, 160, 0, 37, 42, 185, 0, 118, 1, 0, 43, 185, 0, 118, 1, 0, 160, 0, 22, 42]
abbrev dktX0_areAlike_1 : List UInt8 := dkwX0_areAlike_1 ++ dktX0_areAlike_2
def dkwX0_areAlike_0 : List UInt8 := [42, 185, 0, 110, 1, 0, 43, 185, 0, 110, 1, 0, 160, 0, 52, 42, 185, 0, 115, 1, 0, 43]
abbrev dktX0_areAlike_0 : List UInt8 := dkwX0_areAlike_0 ++ dktX0_areAlike_1
theorem dksX0_areAlike_0 : cX0_areAlike.data.toList.drop 0 = dktX0_areAlike_0 := by decide +kernel
theorem dksX0_areAlike_1 : cX0_areAlike.data.toList.drop 22 = dktX0_areAlike_1 := dk_seg dksX0_areAlike_0 22 rfl rfl
theorem dksX0_areAlike_2 : cX0_areAlike.data.toList.drop 46 = dktX0_areAlike_2 := dk_seg dksX0_areAlike_1 24 rfl rfl
theorem dX0_areAlike_0 : decode cX0_areAlike 0 = .ok (.aload_n 0, 1) := dk_42 (dk_at dksX0_areAlike_0 0 rfl rfl)
theorem dX0_areAlike_1 : decode cX0_areAlike 1 = .ok (.invokeinterface 110 1, 5) := by decide +kernel
theorem dX0_areAlike_6 : decode cX0_areAlike 6 = .ok (.aload_n 1, 1) := dk_43 (dk_at dksX0_areAlike_0 6 rfl rfl)
theorem dX0_areAlike_7 : decode cX0_areAlike 7 = .ok (.invokeinterface 110 1, 5) := by decide +kernel
theorem dX0_areAlike_12 : decode cX0_areAlike 12 = .ok (.if_icmp .ne 52, 3) := dk_160 0 52 (dk_at dksX0_areAlike_0 12 rfl rfl)
theorem dX0_areAlike_15 : decode cX0_areAlike 15 = .ok (.aload_n 0, 1) := dk_42 (dk_at dksX0_areAlike_0 15 rfl rfl)
theorem dX0_areAlike_16 : decode cX0_areAlike 16 = .ok (.invokeinterface 115 1, 5) := by decide +kernel
theorem dX0_areAlike_21 : decode cX0_areAlike 21 = .ok (.aload_n 1, 1) := dk_43 (dk_at dksX0_areAlike_0 21 rfl rfl)
theorem dX0_areAlike_22 : decode cX0_areAlike 22 = .ok (.invokeinterface 115 1, 5) := by decide +kernel
theorem dX0_areAlike_27 : decode cX0_areAlike 27 = .ok (.if_icmp .ne 37, 3) := dk_160 0 37 (dk_at dksX0_areAlike_1 5 rfl rfl)
theorem dX0_areAlike_30 : decode cX0_areAlike 30 = .ok (.aload_n 0, 1) := dk_42 (dk_at dksX0_areAlike_1 8 rfl rfl)
theorem dX0_areAlike_31 : decode cX0_areAlike 31 = .ok (.invokeinterface 118 1, 5) := by decide +kernel
theorem dX0_areAlike_36 : decode cX0_areAlike 36 = .ok (.aload_n 1, 1) := dk_43 (dk_at dksX0_areAlike_1 14 rfl rfl)
theorem dX0_areAlike_37 : decode cX0_areAlike 37 = .ok (.invokeinterface 118 1, 5) := by decide +kernel
theorem dX0_areAlike_42 : decode cX0_areAlike 42 = .ok (.if_icmp .ne 22, 3) := dk_160 0 22 (dk_at dksX0_areAlike_1 20 rfl rfl)
theorem dX0_areAlike_45 : decode cX0_areAlike 45 = .ok (.aload_n 0, 1) := dk_42 (dk_at dksX0_areAlike_1 23 rfl rfl)
theorem dX0_areAlike_46 : decode cX0_areAlike 46 = .ok (.invokeinterface 120 1, 5) := by decide +kernel
theorem dX0_areAlike_51 : decode cX0_areAlike 51 = .ok (.aload_n 1, 1) := dk_43 (dk_at dksX0_areAlike_2 5 rfl rfl)
theorem dX0_areAlike_52 : decode cX0_areAlike 52 = .ok (.invokeinterface 120 1, 5) := by decide +kernel
theorem dX0_areAlike_57 : decode cX0_areAlike 57 = .ok (.if_icmp .ne 7, 3) := dk_160 0 7 (dk_at dksX0_areAlike_2 11 rfl rfl)
theorem dX0_areAlike_60 : decode cX0_areAlike 60 = .ok (.iconst 1, 1) := dk_4 (dk_at dksX0_areAlike_2 14 rfl rfl)
theorem dX0_areAlike_61 : decode cX0_areAlike 61 = .ok (.goto 4, 3) := dk_167 0 4 (dk_at dksX0_areAlike_2 15 rfl rfl)
theorem dX0_areAlike_64 : decode cX0_areAlike 64 = .ok (.iconst 0, 1) := dk_3 (dk_at dksX0_areAlike_2 18 rfl rfl)
theorem dX0_areAlike_65 : decode cX0_areAlike 65 = .ok (.ireturn, 1) := dk_172 (dk_at dksX0_areAlike_2 19 rfl rfl)
abbrev cX0_weigh : ByteArray := prog_1_method_20_code
def yX0_weigh : MethodName := ⟨RX0, "weigh", "(III)I"⟩
def dkwX0_weigh_2 : List UInt8 := [182, 0, 215, 182, 0, 187, 172, 58, 5, 42, 25, 5, 182, 0, 191, 172]
abbrev dktX0_weigh_2 : List UInt8 := dkwX0_weigh_2 ++ []
def dkwX0_weigh_1 : List UInt8 := [172, 42, 180, 0, 18, 182, 0, 174, 58, 4, 42, 25, 4, 42, 180, 0, 18, 180, 0, 178, 27, 50, 28, 29]
abbrev dktX0_weigh_1 : List UInt8 := dkwX0_weigh_1 ++ dktX0_weigh_2
def dkwX0_weigh_0 : List UInt8 := [42, 180, 0, 18, 27, 28, 182, 0, 212, 154, 0, 6, 16, 245, 172, 29, 184, 0, 199, 154, 0, 6, 16, 244]
abbrev dktX0_weigh_0 : List UInt8 := dkwX0_weigh_0 ++ dktX0_weigh_1
theorem dksX0_weigh_0 : cX0_weigh.data.toList.drop 0 = dktX0_weigh_0 := by decide +kernel
theorem dksX0_weigh_1 : cX0_weigh.data.toList.drop 24 = dktX0_weigh_1 := dk_seg dksX0_weigh_0 24 rfl rfl
theorem dksX0_weigh_2 : cX0_weigh.data.toList.drop 48 = dktX0_weigh_2 := dk_seg dksX0_weigh_1 24 rfl rfl
theorem dX0_weigh_0 : decode cX0_weigh 0 = .ok (.aload_n 0, 1) := dk_42 (dk_at dksX0_weigh_0 0 rfl rfl)
theorem dX0_weigh_1 : decode cX0_weigh 1 = .ok (.getfield 18, 3) := dk_180 0 18 (dk_at dksX0_weigh_0 1 rfl rfl)
theorem dX0_weigh_4 : decode cX0_weigh 4 = .ok (.iload_n 1, 1) := dk_27 (dk_at dksX0_weigh_0 4 rfl rfl)
theorem dX0_weigh_5 : decode cX0_weigh 5 = .ok (.iload_n 2, 1) := dk_28 (dk_at dksX0_weigh_0 5 rfl rfl)
theorem dX0_weigh_6 : decode cX0_weigh 6 = .ok (.invokevirtual 212, 3) := dk_182 0 212 (dk_at dksX0_weigh_0 6 rfl rfl)
theorem dX0_weigh_9 : decode cX0_weigh 9 = .ok (.ifCond .ne 6, 3) := dk_154 0 6 (dk_at dksX0_weigh_0 9 rfl rfl)
theorem dX0_weigh_12 : decode cX0_weigh 12 = .ok (.bipush (-11), 2) := dk_16 245 (dk_at dksX0_weigh_0 12 rfl rfl)
theorem dX0_weigh_14 : decode cX0_weigh 14 = .ok (.ireturn, 1) := dk_172 (dk_at dksX0_weigh_0 14 rfl rfl)
theorem dX0_weigh_15 : decode cX0_weigh 15 = .ok (.iload_n 3, 1) := dk_29 (dk_at dksX0_weigh_0 15 rfl rfl)
theorem dX0_weigh_16 : decode cX0_weigh 16 = .ok (.invokestatic 199, 3) := dk_184 0 199 (dk_at dksX0_weigh_0 16 rfl rfl)
theorem dX0_weigh_19 : decode cX0_weigh 19 = .ok (.ifCond .ne 6, 3) := dk_154 0 6 (dk_at dksX0_weigh_0 19 rfl rfl)
theorem dX0_weigh_22 : decode cX0_weigh 22 = .ok (.bipush (-12), 2) := dk_16 244 (dk_at dksX0_weigh_0 22 rfl rfl)
theorem dX0_weigh_24 : decode cX0_weigh 24 = .ok (.ireturn, 1) := dk_172 (dk_at dksX0_weigh_1 0 rfl rfl)
theorem dX0_weigh_25 : decode cX0_weigh 25 = .ok (.aload_n 0, 1) := dk_42 (dk_at dksX0_weigh_1 1 rfl rfl)
theorem dX0_weigh_26 : decode cX0_weigh 26 = .ok (.getfield 18, 3) := dk_180 0 18 (dk_at dksX0_weigh_1 2 rfl rfl)
theorem dX0_weigh_29 : decode cX0_weigh 29 = .ok (.invokevirtual 174, 3) := dk_182 0 174 (dk_at dksX0_weigh_1 5 rfl rfl)
theorem dX0_weigh_32 : decode cX0_weigh 32 = .ok (.astore 4, 2) := dk_58 4 (dk_at dksX0_weigh_1 8 rfl rfl)
theorem dX0_weigh_34 : decode cX0_weigh 34 = .ok (.aload_n 0, 1) := dk_42 (dk_at dksX0_weigh_1 10 rfl rfl)
theorem dX0_weigh_35 : decode cX0_weigh 35 = .ok (.aload 4, 2) := dk_25 4 (dk_at dksX0_weigh_1 11 rfl rfl)
theorem dX0_weigh_37 : decode cX0_weigh 37 = .ok (.aload_n 0, 1) := dk_42 (dk_at dksX0_weigh_1 13 rfl rfl)
theorem dX0_weigh_38 : decode cX0_weigh 38 = .ok (.getfield 18, 3) := dk_180 0 18 (dk_at dksX0_weigh_1 14 rfl rfl)
theorem dX0_weigh_41 : decode cX0_weigh 41 = .ok (.getfield 178, 3) := dk_180 0 178 (dk_at dksX0_weigh_1 17 rfl rfl)
theorem dX0_weigh_44 : decode cX0_weigh 44 = .ok (.iload_n 1, 1) := dk_27 (dk_at dksX0_weigh_1 20 rfl rfl)
theorem dX0_weigh_45 : decode cX0_weigh 45 = .ok (.aaload, 1) := dk_50 (dk_at dksX0_weigh_1 21 rfl rfl)
theorem dX0_weigh_46 : decode cX0_weigh 46 = .ok (.iload_n 2, 1) := dk_28 (dk_at dksX0_weigh_1 22 rfl rfl)
theorem dX0_weigh_47 : decode cX0_weigh 47 = .ok (.iload_n 3, 1) := dk_29 (dk_at dksX0_weigh_1 23 rfl rfl)
theorem dX0_weigh_48 : decode cX0_weigh 48 = .ok (.invokevirtual 215, 3) := dk_182 0 215 (dk_at dksX0_weigh_2 0 rfl rfl)
theorem dX0_weigh_51 : decode cX0_weigh 51 = .ok (.invokevirtual 187, 3) := dk_182 0 187 (dk_at dksX0_weigh_2 3 rfl rfl)
theorem dX0_weigh_54 : decode cX0_weigh 54 = .ok (.ireturn, 1) := dk_172 (dk_at dksX0_weigh_2 6 rfl rfl)
theorem dX0_weigh_55 : decode cX0_weigh 55 = .ok (.astore 5, 2) := dk_58 5 (dk_at dksX0_weigh_2 7 rfl rfl)
theorem dX0_weigh_57 : decode cX0_weigh 57 = .ok (.aload_n 0, 1) := dk_42 (dk_at dksX0_weigh_2 9 rfl rfl)
theorem dX0_weigh_58 : decode cX0_weigh 58 = .ok (.aload 5, 2) := dk_25 5 (dk_at dksX0_weigh_2 10 rfl rfl)
theorem dX0_weigh_60 : decode cX0_weigh 60 = .ok (.invokevirtual 191, 3) := dk_182 0 191 (dk_at dksX0_weigh_2 12 rfl rfl)
theorem dX0_weigh_63 : decode cX0_weigh 63 = .ok (.ireturn, 1) := dk_172 (dk_at dksX0_weigh_2 15 rfl rfl)
abbrev cX0_weighed : ByteArray := prog_1_method_10_code
def yX0_weighed : MethodName := ⟨RX0, "weighed", "(LChantRules$Arc;I)LChantRules$Arc;"⟩
def dkwX0_weighed_1 : List UInt8 := [27, 184, 0, 123, 176]
abbrev dktX0_weighed_1 : List UInt8 := dkwX0_weighed_1 ++ []
def dkwX0_weighed_0 : List UInt8 := [42, 185, 0, 110, 1, 0, 42, 185, 0, 115, 1, 0, 42, 185, 0, 118, 1, 0, 42, 185, 0, 120, 1, 0]
abbrev dktX0_weighed_0 : List UInt8 := dkwX0_weighed_0 ++ dktX0_weighed_1
theorem dksX0_weighed_0 : cX0_weighed.data.toList.drop 0 = dktX0_weighed_0 := by decide +kernel
theorem dksX0_weighed_1 : cX0_weighed.data.toList.drop 24 = dktX0_weighed_1 := dk_seg dksX0_weighed_0 24 rfl rfl
theorem dX0_weighed_0 : decode cX0_weighed 0 = .ok (.aload_n 0, 1) := dk_42 (dk_at dksX0_weighed_0 0 rfl rfl)
theorem dX0_weighed_1 : decode cX0_weighed 1 = .ok (.invokeinterface 110 1, 5) := by decide +kernel
theorem dX0_weighed_6 : decode cX0_weighed 6 = .ok (.aload_n 0, 1) := dk_42 (dk_at dksX0_weighed_0 6 rfl rfl)
theorem dX0_weighed_7 : decode cX0_weighed 7 = .ok (.invokeinterface 115 1, 5) := by decide +kernel
theorem dX0_weighed_12 : decode cX0_weighed 12 = .ok (.aload_n 0, 1) := dk_42 (dk_at dksX0_weighed_0 12 rfl rfl)
theorem dX0_weighed_13 : decode cX0_weighed 13 = .ok (.invokeinterface 118 1, 5) := by decide +kernel
theorem dX0_weighed_18 : decode cX0_weighed 18 = .ok (.aload_n 0, 1) := dk_42 (dk_at dksX0_weighed_0 18 rfl rfl)
theorem dX0_weighed_19 : decode cX0_weighed 19 = .ok (.invokeinterface 120 1, 5) := by decide +kernel
theorem dX0_weighed_24 : decode cX0_weighed 24 = .ok (.iload_n 1, 1) := dk_27 (dk_at dksX0_weighed_1 0 rfl rfl)
theorem dX0_weighed_25 : decode cX0_weighed 25 = .ok (.invokestatic 123, 3) := dk_184 0 123 (dk_at dksX0_weighed_1 1 rfl rfl)
theorem dX0_weighed_28 : decode cX0_weighed 28 = .ok (.areturn, 1) := dk_176 (dk_at dksX0_weighed_1 4 rfl rfl)
abbrev cX0_drop : ByteArray := prog_1_method_21_code
def yX0_drop : MethodName := ⟨RX0, "drop", "(II)I"⟩
def dkwX0_drop_1 : List UInt8 := [45, 42, 180, 0, 18, 27, 28, 182, 0, 218, 182, 0, 187, 172]
abbrev dktX0_drop_1 : List UInt8 := dkwX0_drop_1 ++ []
def dkwX0_drop_0 : List UInt8 := [42, 180, 0, 18, 27, 28, 182, 0, 212, 154, 0, 6, 16, 245, 172, 42, 180, 0, 18, 182, 0, 174, 78, 42]
abbrev dktX0_drop_0 : List UInt8 := dkwX0_drop_0 ++ dktX0_drop_1
theorem dksX0_drop_0 : cX0_drop.data.toList.drop 0 = dktX0_drop_0 := by decide +kernel
theorem dksX0_drop_1 : cX0_drop.data.toList.drop 24 = dktX0_drop_1 := dk_seg dksX0_drop_0 24 rfl rfl
theorem dX0_drop_0 : decode cX0_drop 0 = .ok (.aload_n 0, 1) := dk_42 (dk_at dksX0_drop_0 0 rfl rfl)
theorem dX0_drop_1 : decode cX0_drop 1 = .ok (.getfield 18, 3) := dk_180 0 18 (dk_at dksX0_drop_0 1 rfl rfl)
theorem dX0_drop_4 : decode cX0_drop 4 = .ok (.iload_n 1, 1) := dk_27 (dk_at dksX0_drop_0 4 rfl rfl)
theorem dX0_drop_5 : decode cX0_drop 5 = .ok (.iload_n 2, 1) := dk_28 (dk_at dksX0_drop_0 5 rfl rfl)
theorem dX0_drop_6 : decode cX0_drop 6 = .ok (.invokevirtual 212, 3) := dk_182 0 212 (dk_at dksX0_drop_0 6 rfl rfl)
theorem dX0_drop_9 : decode cX0_drop 9 = .ok (.ifCond .ne 6, 3) := dk_154 0 6 (dk_at dksX0_drop_0 9 rfl rfl)
theorem dX0_drop_12 : decode cX0_drop 12 = .ok (.bipush (-11), 2) := dk_16 245 (dk_at dksX0_drop_0 12 rfl rfl)
theorem dX0_drop_14 : decode cX0_drop 14 = .ok (.ireturn, 1) := dk_172 (dk_at dksX0_drop_0 14 rfl rfl)
theorem dX0_drop_15 : decode cX0_drop 15 = .ok (.aload_n 0, 1) := dk_42 (dk_at dksX0_drop_0 15 rfl rfl)
theorem dX0_drop_16 : decode cX0_drop 16 = .ok (.getfield 18, 3) := dk_180 0 18 (dk_at dksX0_drop_0 16 rfl rfl)
theorem dX0_drop_19 : decode cX0_drop 19 = .ok (.invokevirtual 174, 3) := dk_182 0 174 (dk_at dksX0_drop_0 19 rfl rfl)
theorem dX0_drop_22 : decode cX0_drop 22 = .ok (.astore_n 3, 1) := dk_78 (dk_at dksX0_drop_0 22 rfl rfl)
theorem dX0_drop_23 : decode cX0_drop 23 = .ok (.aload_n 0, 1) := dk_42 (dk_at dksX0_drop_0 23 rfl rfl)
theorem dX0_drop_24 : decode cX0_drop 24 = .ok (.aload_n 3, 1) := dk_45 (dk_at dksX0_drop_1 0 rfl rfl)
theorem dX0_drop_25 : decode cX0_drop 25 = .ok (.aload_n 0, 1) := dk_42 (dk_at dksX0_drop_1 1 rfl rfl)
theorem dX0_drop_26 : decode cX0_drop 26 = .ok (.getfield 18, 3) := dk_180 0 18 (dk_at dksX0_drop_1 2 rfl rfl)
theorem dX0_drop_29 : decode cX0_drop 29 = .ok (.iload_n 1, 1) := dk_27 (dk_at dksX0_drop_1 5 rfl rfl)
theorem dX0_drop_30 : decode cX0_drop 30 = .ok (.iload_n 2, 1) := dk_28 (dk_at dksX0_drop_1 6 rfl rfl)
theorem dX0_drop_31 : decode cX0_drop 31 = .ok (.invokevirtual 218, 3) := dk_182 0 218 (dk_at dksX0_drop_1 7 rfl rfl)
theorem dX0_drop_34 : decode cX0_drop 34 = .ok (.invokevirtual 187, 3) := dk_182 0 187 (dk_at dksX0_drop_1 10 rfl rfl)
theorem dX0_drop_37 : decode cX0_drop 37 = .ok (.ireturn, 1) := dk_172 (dk_at dksX0_drop_1 13 rfl rfl)
abbrev cX0_turn : ByteArray := prog_1_method_22_code
def yX0_turn : MethodName := ⟨RX0, "turn", "(I)I"⟩
def dkwX0_turn_1 : List UInt8 := [27, 182, 0, 221, 182, 0, 187, 172, 78, 42, 45, 182, 0, 191, 172]
abbrev dktX0_turn_1 : List UInt8 := dkwX0_turn_1 ++ []
def dkwX0_turn_0 : List UInt8 := [27, 184, 0, 170, 154, 0, 6, 16, 245, 172, 42, 180, 0, 18, 182, 0, 174, 77, 42, 44, 42, 180, 0, 18]
abbrev dktX0_turn_0 : List UInt8 := dkwX0_turn_0 ++ dktX0_turn_1
theorem dksX0_turn_0 : cX0_turn.data.toList.drop 0 = dktX0_turn_0 := by decide +kernel
theorem dksX0_turn_1 : cX0_turn.data.toList.drop 24 = dktX0_turn_1 := dk_seg dksX0_turn_0 24 rfl rfl
theorem dX0_turn_0 : decode cX0_turn 0 = .ok (.iload_n 1, 1) := dk_27 (dk_at dksX0_turn_0 0 rfl rfl)
theorem dX0_turn_1 : decode cX0_turn 1 = .ok (.invokestatic 170, 3) := dk_184 0 170 (dk_at dksX0_turn_0 1 rfl rfl)
theorem dX0_turn_4 : decode cX0_turn 4 = .ok (.ifCond .ne 6, 3) := dk_154 0 6 (dk_at dksX0_turn_0 4 rfl rfl)
theorem dX0_turn_7 : decode cX0_turn 7 = .ok (.bipush (-11), 2) := dk_16 245 (dk_at dksX0_turn_0 7 rfl rfl)
theorem dX0_turn_9 : decode cX0_turn 9 = .ok (.ireturn, 1) := dk_172 (dk_at dksX0_turn_0 9 rfl rfl)
theorem dX0_turn_10 : decode cX0_turn 10 = .ok (.aload_n 0, 1) := dk_42 (dk_at dksX0_turn_0 10 rfl rfl)
theorem dX0_turn_11 : decode cX0_turn 11 = .ok (.getfield 18, 3) := dk_180 0 18 (dk_at dksX0_turn_0 11 rfl rfl)
theorem dX0_turn_14 : decode cX0_turn 14 = .ok (.invokevirtual 174, 3) := dk_182 0 174 (dk_at dksX0_turn_0 14 rfl rfl)
theorem dX0_turn_17 : decode cX0_turn 17 = .ok (.astore_n 2, 1) := dk_77 (dk_at dksX0_turn_0 17 rfl rfl)
theorem dX0_turn_18 : decode cX0_turn 18 = .ok (.aload_n 0, 1) := dk_42 (dk_at dksX0_turn_0 18 rfl rfl)
theorem dX0_turn_19 : decode cX0_turn 19 = .ok (.aload_n 2, 1) := dk_44 (dk_at dksX0_turn_0 19 rfl rfl)
theorem dX0_turn_20 : decode cX0_turn 20 = .ok (.aload_n 0, 1) := dk_42 (dk_at dksX0_turn_0 20 rfl rfl)
theorem dX0_turn_21 : decode cX0_turn 21 = .ok (.getfield 18, 3) := dk_180 0 18 (dk_at dksX0_turn_0 21 rfl rfl)
theorem dX0_turn_24 : decode cX0_turn 24 = .ok (.iload_n 1, 1) := dk_27 (dk_at dksX0_turn_1 0 rfl rfl)
theorem dX0_turn_25 : decode cX0_turn 25 = .ok (.invokevirtual 221, 3) := dk_182 0 221 (dk_at dksX0_turn_1 1 rfl rfl)
theorem dX0_turn_28 : decode cX0_turn 28 = .ok (.invokevirtual 187, 3) := dk_182 0 187 (dk_at dksX0_turn_1 4 rfl rfl)
theorem dX0_turn_31 : decode cX0_turn 31 = .ok (.ireturn, 1) := dk_172 (dk_at dksX0_turn_1 7 rfl rfl)
theorem dX0_turn_32 : decode cX0_turn 32 = .ok (.astore_n 3, 1) := dk_78 (dk_at dksX0_turn_1 8 rfl rfl)
theorem dX0_turn_33 : decode cX0_turn 33 = .ok (.aload_n 0, 1) := dk_42 (dk_at dksX0_turn_1 9 rfl rfl)
theorem dX0_turn_34 : decode cX0_turn 34 = .ok (.aload_n 3, 1) := dk_45 (dk_at dksX0_turn_1 10 rfl rfl)
theorem dX0_turn_35 : decode cX0_turn 35 = .ok (.invokevirtual 191, 3) := dk_182 0 191 (dk_at dksX0_turn_1 11 rfl rfl)
theorem dX0_turn_38 : decode cX0_turn 38 = .ok (.ireturn, 1) := dk_172 (dk_at dksX0_turn_1 14 rfl rfl)
abbrev cX0_turned : ByteArray := prog_1_method_11_code
def yX0_turned : MethodName := ⟨RX0, "turned", "(LChantRules$Arc;)LChantRules$Arc;"⟩
def dkwX0_turned_1 : List UInt8 := [42, 185, 0, 127, 1, 0, 184, 0, 123, 176]
abbrev dktX0_turned_1 : List UInt8 := dkwX0_turned_1 ++ []
def dkwX0_turned_0 : List UInt8 := [42, 185, 0, 110, 1, 0, 42, 185, 0, 115, 1, 0, 42, 185, 0, 120, 1, 0, 42, 185, 0, 118, 1, 0]
abbrev dktX0_turned_0 : List UInt8 := dkwX0_turned_0 ++ dktX0_turned_1
theorem dksX0_turned_0 : cX0_turned.data.toList.drop 0 = dktX0_turned_0 := by decide +kernel
theorem dksX0_turned_1 : cX0_turned.data.toList.drop 24 = dktX0_turned_1 := dk_seg dksX0_turned_0 24 rfl rfl
theorem dX0_turned_0 : decode cX0_turned 0 = .ok (.aload_n 0, 1) := dk_42 (dk_at dksX0_turned_0 0 rfl rfl)
theorem dX0_turned_1 : decode cX0_turned 1 = .ok (.invokeinterface 110 1, 5) := by decide +kernel
theorem dX0_turned_6 : decode cX0_turned 6 = .ok (.aload_n 0, 1) := dk_42 (dk_at dksX0_turned_0 6 rfl rfl)
theorem dX0_turned_7 : decode cX0_turned 7 = .ok (.invokeinterface 115 1, 5) := by decide +kernel
theorem dX0_turned_12 : decode cX0_turned 12 = .ok (.aload_n 0, 1) := dk_42 (dk_at dksX0_turned_0 12 rfl rfl)
theorem dX0_turned_13 : decode cX0_turned 13 = .ok (.invokeinterface 120 1, 5) := by decide +kernel
theorem dX0_turned_18 : decode cX0_turned 18 = .ok (.aload_n 0, 1) := dk_42 (dk_at dksX0_turned_0 18 rfl rfl)
theorem dX0_turned_19 : decode cX0_turned 19 = .ok (.invokeinterface 118 1, 5) := by decide +kernel
theorem dX0_turned_24 : decode cX0_turned 24 = .ok (.aload_n 0, 1) := dk_42 (dk_at dksX0_turned_1 0 rfl rfl)
theorem dX0_turned_25 : decode cX0_turned 25 = .ok (.invokeinterface 127 1, 5) := by decide +kernel
theorem dX0_turned_30 : decode cX0_turned 30 = .ok (.invokestatic 123, 3) := dk_184 0 123 (dk_at dksX0_turned_1 6 rfl rfl)
theorem dX0_turned_33 : decode cX0_turned 33 = .ok (.areturn, 1) := dk_176 (dk_at dksX0_turned_1 9 rfl rfl)
abbrev cX0_arcOf_2 : ByteArray := prog_1_method_23_code
def yX0_arcOf_2 : MethodName := ⟨RX0, "arcOf", "(III)I"⟩
def dkwX0_arcOf_2_1 : List UInt8 := [182, 0, 225, 167, 0, 5, 16, 245, 172]
abbrev dktX0_arcOf_2_1 : List UInt8 := dkwX0_arcOf_2_1 ++ []
def dkwX0_arcOf_2_0 : List UInt8 := [42, 180, 0, 18, 27, 28, 182, 0, 212, 153, 0, 20, 42, 180, 0, 18, 180, 0, 178, 27, 50, 28, 29]
abbrev dktX0_arcOf_2_0 : List UInt8 := dkwX0_arcOf_2_0 ++ dktX0_arcOf_2_1
theorem dksX0_arcOf_2_0 : cX0_arcOf_2.data.toList.drop 0 = dktX0_arcOf_2_0 := by decide +kernel
theorem dksX0_arcOf_2_1 : cX0_arcOf_2.data.toList.drop 23 = dktX0_arcOf_2_1 := dk_seg dksX0_arcOf_2_0 23 rfl rfl
theorem dX0_arcOf_2_0 : decode cX0_arcOf_2 0 = .ok (.aload_n 0, 1) := dk_42 (dk_at dksX0_arcOf_2_0 0 rfl rfl)
theorem dX0_arcOf_2_1 : decode cX0_arcOf_2 1 = .ok (.getfield 18, 3) := dk_180 0 18 (dk_at dksX0_arcOf_2_0 1 rfl rfl)
theorem dX0_arcOf_2_4 : decode cX0_arcOf_2 4 = .ok (.iload_n 1, 1) := dk_27 (dk_at dksX0_arcOf_2_0 4 rfl rfl)
theorem dX0_arcOf_2_5 : decode cX0_arcOf_2 5 = .ok (.iload_n 2, 1) := dk_28 (dk_at dksX0_arcOf_2_0 5 rfl rfl)
theorem dX0_arcOf_2_6 : decode cX0_arcOf_2 6 = .ok (.invokevirtual 212, 3) := dk_182 0 212 (dk_at dksX0_arcOf_2_0 6 rfl rfl)
theorem dX0_arcOf_2_9 : decode cX0_arcOf_2 9 = .ok (.ifCond .eq 20, 3) := dk_153 0 20 (dk_at dksX0_arcOf_2_0 9 rfl rfl)
theorem dX0_arcOf_2_12 : decode cX0_arcOf_2 12 = .ok (.aload_n 0, 1) := dk_42 (dk_at dksX0_arcOf_2_0 12 rfl rfl)
theorem dX0_arcOf_2_13 : decode cX0_arcOf_2 13 = .ok (.getfield 18, 3) := dk_180 0 18 (dk_at dksX0_arcOf_2_0 13 rfl rfl)
theorem dX0_arcOf_2_16 : decode cX0_arcOf_2 16 = .ok (.getfield 178, 3) := dk_180 0 178 (dk_at dksX0_arcOf_2_0 16 rfl rfl)
theorem dX0_arcOf_2_19 : decode cX0_arcOf_2 19 = .ok (.iload_n 1, 1) := dk_27 (dk_at dksX0_arcOf_2_0 19 rfl rfl)
theorem dX0_arcOf_2_20 : decode cX0_arcOf_2 20 = .ok (.aaload, 1) := dk_50 (dk_at dksX0_arcOf_2_0 20 rfl rfl)
theorem dX0_arcOf_2_21 : decode cX0_arcOf_2 21 = .ok (.iload_n 2, 1) := dk_28 (dk_at dksX0_arcOf_2_0 21 rfl rfl)
theorem dX0_arcOf_2_22 : decode cX0_arcOf_2 22 = .ok (.iload_n 3, 1) := dk_29 (dk_at dksX0_arcOf_2_0 22 rfl rfl)
theorem dX0_arcOf_2_23 : decode cX0_arcOf_2 23 = .ok (.invokevirtual 225, 3) := dk_182 0 225 (dk_at dksX0_arcOf_2_1 0 rfl rfl)
theorem dX0_arcOf_2_26 : decode cX0_arcOf_2 26 = .ok (.goto 5, 3) := dk_167 0 5 (dk_at dksX0_arcOf_2_1 3 rfl rfl)
theorem dX0_arcOf_2_29 : decode cX0_arcOf_2 29 = .ok (.bipush (-11), 2) := dk_16 245 (dk_at dksX0_arcOf_2_1 6 rfl rfl)
theorem dX0_arcOf_2_31 : decode cX0_arcOf_2 31 = .ok (.ireturn, 1) := dk_172 (dk_at dksX0_arcOf_2_1 8 rfl rfl)
abbrev cX0_stateOf : ByteArray := prog_1_method_24_code
def yX0_stateOf : MethodName := ⟨RX0, "stateOf", "(III)I"⟩
def dkwX0_stateOf_1 : List UInt8 := [182, 0, 228, 167, 0, 5, 16, 245, 172]
abbrev dktX0_stateOf_1 : List UInt8 := dkwX0_stateOf_1 ++ []
def dkwX0_stateOf_0 : List UInt8 := [42, 180, 0, 18, 27, 28, 182, 0, 195, 153, 0, 20, 42, 180, 0, 18, 180, 0, 178, 27, 50, 28, 29]
abbrev dktX0_stateOf_0 : List UInt8 := dkwX0_stateOf_0 ++ dktX0_stateOf_1
theorem dksX0_stateOf_0 : cX0_stateOf.data.toList.drop 0 = dktX0_stateOf_0 := by decide +kernel
theorem dksX0_stateOf_1 : cX0_stateOf.data.toList.drop 23 = dktX0_stateOf_1 := dk_seg dksX0_stateOf_0 23 rfl rfl
theorem dX0_stateOf_0 : decode cX0_stateOf 0 = .ok (.aload_n 0, 1) := dk_42 (dk_at dksX0_stateOf_0 0 rfl rfl)
theorem dX0_stateOf_1 : decode cX0_stateOf 1 = .ok (.getfield 18, 3) := dk_180 0 18 (dk_at dksX0_stateOf_0 1 rfl rfl)
theorem dX0_stateOf_4 : decode cX0_stateOf 4 = .ok (.iload_n 1, 1) := dk_27 (dk_at dksX0_stateOf_0 4 rfl rfl)
theorem dX0_stateOf_5 : decode cX0_stateOf 5 = .ok (.iload_n 2, 1) := dk_28 (dk_at dksX0_stateOf_0 5 rfl rfl)
theorem dX0_stateOf_6 : decode cX0_stateOf 6 = .ok (.invokevirtual 195, 3) := dk_182 0 195 (dk_at dksX0_stateOf_0 6 rfl rfl)
theorem dX0_stateOf_9 : decode cX0_stateOf 9 = .ok (.ifCond .eq 20, 3) := dk_153 0 20 (dk_at dksX0_stateOf_0 9 rfl rfl)
theorem dX0_stateOf_12 : decode cX0_stateOf 12 = .ok (.aload_n 0, 1) := dk_42 (dk_at dksX0_stateOf_0 12 rfl rfl)
theorem dX0_stateOf_13 : decode cX0_stateOf 13 = .ok (.getfield 18, 3) := dk_180 0 18 (dk_at dksX0_stateOf_0 13 rfl rfl)
theorem dX0_stateOf_16 : decode cX0_stateOf 16 = .ok (.getfield 178, 3) := dk_180 0 178 (dk_at dksX0_stateOf_0 16 rfl rfl)
theorem dX0_stateOf_19 : decode cX0_stateOf 19 = .ok (.iload_n 1, 1) := dk_27 (dk_at dksX0_stateOf_0 19 rfl rfl)
theorem dX0_stateOf_20 : decode cX0_stateOf 20 = .ok (.aaload, 1) := dk_50 (dk_at dksX0_stateOf_0 20 rfl rfl)
theorem dX0_stateOf_21 : decode cX0_stateOf 21 = .ok (.iload_n 2, 1) := dk_28 (dk_at dksX0_stateOf_0 21 rfl rfl)
theorem dX0_stateOf_22 : decode cX0_stateOf 22 = .ok (.iload_n 3, 1) := dk_29 (dk_at dksX0_stateOf_0 22 rfl rfl)
theorem dX0_stateOf_23 : decode cX0_stateOf 23 = .ok (.invokevirtual 228, 3) := dk_182 0 228 (dk_at dksX0_stateOf_1 0 rfl rfl)
theorem dX0_stateOf_26 : decode cX0_stateOf 26 = .ok (.goto 5, 3) := dk_167 0 5 (dk_at dksX0_stateOf_1 3 rfl rfl)
theorem dX0_stateOf_29 : decode cX0_stateOf 29 = .ok (.bipush (-11), 2) := dk_16 245 (dk_at dksX0_stateOf_1 6 rfl rfl)
theorem dX0_stateOf_31 : decode cX0_stateOf 31 = .ok (.ireturn, 1) := dk_172 (dk_at dksX0_stateOf_1 8 rfl rfl)
abbrev cX0_least : ByteArray := prog_1_method_27_code
def yX0_least : MethodName := ⟨RX0, "least", "(I)I"⟩
def dkwX0_least_1 : List UInt8 := [42, 180, 0, 18, 180, 0, 178, 27, 50, 42, 180, 0, 32, 182, 0, 253, 184, 1, 1, 172]
abbrev dktX0_least_1 : List UInt8 := dkwX0_least_1 ++ []
def dkwX0_least_0 : List UInt8 := [27, 184, 0, 170, 154, 0, 8, 16, 245, 167, 0, 34, 42, 182, 0, 249, 154, 0, 8, 16, 244, 167, 0, 22]
abbrev dktX0_least_0 : List UInt8 := dkwX0_least_0 ++ dktX0_least_1
theorem dksX0_least_0 : cX0_least.data.toList.drop 0 = dktX0_least_0 := by decide +kernel
theorem dksX0_least_1 : cX0_least.data.toList.drop 24 = dktX0_least_1 := dk_seg dksX0_least_0 24 rfl rfl
theorem dX0_least_0 : decode cX0_least 0 = .ok (.iload_n 1, 1) := dk_27 (dk_at dksX0_least_0 0 rfl rfl)
theorem dX0_least_1 : decode cX0_least 1 = .ok (.invokestatic 170, 3) := dk_184 0 170 (dk_at dksX0_least_0 1 rfl rfl)
theorem dX0_least_4 : decode cX0_least 4 = .ok (.ifCond .ne 8, 3) := dk_154 0 8 (dk_at dksX0_least_0 4 rfl rfl)
theorem dX0_least_7 : decode cX0_least 7 = .ok (.bipush (-11), 2) := dk_16 245 (dk_at dksX0_least_0 7 rfl rfl)
theorem dX0_least_9 : decode cX0_least 9 = .ok (.goto 34, 3) := dk_167 0 34 (dk_at dksX0_least_0 9 rfl rfl)
theorem dX0_least_12 : decode cX0_least 12 = .ok (.aload_n 0, 1) := dk_42 (dk_at dksX0_least_0 12 rfl rfl)
theorem dX0_least_13 : decode cX0_least 13 = .ok (.invokevirtual 249, 3) := dk_182 0 249 (dk_at dksX0_least_0 13 rfl rfl)
theorem dX0_least_16 : decode cX0_least 16 = .ok (.ifCond .ne 8, 3) := dk_154 0 8 (dk_at dksX0_least_0 16 rfl rfl)
theorem dX0_least_19 : decode cX0_least 19 = .ok (.bipush (-12), 2) := dk_16 244 (dk_at dksX0_least_0 19 rfl rfl)
theorem dX0_least_21 : decode cX0_least 21 = .ok (.goto 22, 3) := dk_167 0 22 (dk_at dksX0_least_0 21 rfl rfl)
theorem dX0_least_24 : decode cX0_least 24 = .ok (.aload_n 0, 1) := dk_42 (dk_at dksX0_least_1 0 rfl rfl)
theorem dX0_least_25 : decode cX0_least 25 = .ok (.getfield 18, 3) := dk_180 0 18 (dk_at dksX0_least_1 1 rfl rfl)
theorem dX0_least_28 : decode cX0_least 28 = .ok (.getfield 178, 3) := dk_180 0 178 (dk_at dksX0_least_1 4 rfl rfl)
theorem dX0_least_31 : decode cX0_least 31 = .ok (.iload_n 1, 1) := dk_27 (dk_at dksX0_least_1 7 rfl rfl)
theorem dX0_least_32 : decode cX0_least 32 = .ok (.aaload, 1) := dk_50 (dk_at dksX0_least_1 8 rfl rfl)
theorem dX0_least_33 : decode cX0_least 33 = .ok (.aload_n 0, 1) := dk_42 (dk_at dksX0_least_1 9 rfl rfl)
theorem dX0_least_34 : decode cX0_least 34 = .ok (.getfield 32, 3) := dk_180 0 32 (dk_at dksX0_least_1 10 rfl rfl)
theorem dX0_least_37 : decode cX0_least 37 = .ok (.invokevirtual 253, 3) := dk_182 0 253 (dk_at dksX0_least_1 13 rfl rfl)
theorem dX0_least_40 : decode cX0_least 40 = .ok (.invokestatic 257, 3) := dk_184 1 1 (dk_at dksX0_least_1 16 rfl rfl)
theorem dX0_least_43 : decode cX0_least 43 = .ok (.ireturn, 1) := dk_172 (dk_at dksX0_least_1 19 rfl rfl)
abbrev cX0_isWord : ByteArray := prog_1_method_25_code
def yX0_isWord : MethodName := ⟨RX0, "isWord", "()Z"⟩
def dkwX0_isWord_2 : List UInt8 := [184, 0, 56, 126, 60, 132, 2, 1, 167, 255, 224, 27, 172]
abbrev dktX0_isWord_2 : List UInt8 := dkwX0_isWord_2 ++ []
def dkwX0_isWord_1 : List UInt8 := [180, 0, 32, 182, 0, 231, 162, 0, 27, 27, 42, 180, 0, 32, 28, 182, 0, 234, 16, 97, 16, 100]
abbrev dktX0_isWord_1 : List UInt8 := dkwX0_isWord_1 ++ dktX0_isWord_2
def dkwX0_isWord_0 : List UInt8 := [42, 180, 0, 32, 182, 0, 231, 16, 8, 163, 0, 7, 4, 167, 0, 4, 3, 60, 3, 61, 28, 42]
abbrev dktX0_isWord_0 : List UInt8 := dkwX0_isWord_0 ++ dktX0_isWord_1
theorem dksX0_isWord_0 : cX0_isWord.data.toList.drop 0 = dktX0_isWord_0 := by decide +kernel
theorem dksX0_isWord_1 : cX0_isWord.data.toList.drop 22 = dktX0_isWord_1 := dk_seg dksX0_isWord_0 22 rfl rfl
theorem dksX0_isWord_2 : cX0_isWord.data.toList.drop 44 = dktX0_isWord_2 := dk_seg dksX0_isWord_1 22 rfl rfl
theorem dX0_isWord_0 : decode cX0_isWord 0 = .ok (.aload_n 0, 1) := dk_42 (dk_at dksX0_isWord_0 0 rfl rfl)
theorem dX0_isWord_1 : decode cX0_isWord 1 = .ok (.getfield 32, 3) := dk_180 0 32 (dk_at dksX0_isWord_0 1 rfl rfl)
theorem dX0_isWord_4 : decode cX0_isWord 4 = .ok (.invokevirtual 231, 3) := dk_182 0 231 (dk_at dksX0_isWord_0 4 rfl rfl)
theorem dX0_isWord_7 : decode cX0_isWord 7 = .ok (.bipush 8, 2) := dk_16 8 (dk_at dksX0_isWord_0 7 rfl rfl)
theorem dX0_isWord_9 : decode cX0_isWord 9 = .ok (.if_icmp .gt 7, 3) := dk_163 0 7 (dk_at dksX0_isWord_0 9 rfl rfl)
theorem dX0_isWord_12 : decode cX0_isWord 12 = .ok (.iconst 1, 1) := dk_4 (dk_at dksX0_isWord_0 12 rfl rfl)
theorem dX0_isWord_13 : decode cX0_isWord 13 = .ok (.goto 4, 3) := dk_167 0 4 (dk_at dksX0_isWord_0 13 rfl rfl)
theorem dX0_isWord_16 : decode cX0_isWord 16 = .ok (.iconst 0, 1) := dk_3 (dk_at dksX0_isWord_0 16 rfl rfl)
theorem dX0_isWord_17 : decode cX0_isWord 17 = .ok (.istore_n 1, 1) := dk_60 (dk_at dksX0_isWord_0 17 rfl rfl)
theorem dX0_isWord_18 : decode cX0_isWord 18 = .ok (.iconst 0, 1) := dk_3 (dk_at dksX0_isWord_0 18 rfl rfl)
theorem dX0_isWord_19 : decode cX0_isWord 19 = .ok (.istore_n 2, 1) := dk_61 (dk_at dksX0_isWord_0 19 rfl rfl)
theorem dX0_isWord_20 : decode cX0_isWord 20 = .ok (.iload_n 2, 1) := dk_28 (dk_at dksX0_isWord_0 20 rfl rfl)
theorem dX0_isWord_21 : decode cX0_isWord 21 = .ok (.aload_n 0, 1) := dk_42 (dk_at dksX0_isWord_0 21 rfl rfl)
theorem dX0_isWord_22 : decode cX0_isWord 22 = .ok (.getfield 32, 3) := dk_180 0 32 (dk_at dksX0_isWord_1 0 rfl rfl)
theorem dX0_isWord_25 : decode cX0_isWord 25 = .ok (.invokevirtual 231, 3) := dk_182 0 231 (dk_at dksX0_isWord_1 3 rfl rfl)
theorem dX0_isWord_28 : decode cX0_isWord 28 = .ok (.if_icmp .ge 27, 3) := dk_162 0 27 (dk_at dksX0_isWord_1 6 rfl rfl)
theorem dX0_isWord_31 : decode cX0_isWord 31 = .ok (.iload_n 1, 1) := dk_27 (dk_at dksX0_isWord_1 9 rfl rfl)
theorem dX0_isWord_32 : decode cX0_isWord 32 = .ok (.aload_n 0, 1) := dk_42 (dk_at dksX0_isWord_1 10 rfl rfl)
theorem dX0_isWord_33 : decode cX0_isWord 33 = .ok (.getfield 32, 3) := dk_180 0 32 (dk_at dksX0_isWord_1 11 rfl rfl)
theorem dX0_isWord_36 : decode cX0_isWord 36 = .ok (.iload_n 2, 1) := dk_28 (dk_at dksX0_isWord_1 14 rfl rfl)
theorem dX0_isWord_37 : decode cX0_isWord 37 = .ok (.invokevirtual 234, 3) := dk_182 0 234 (dk_at dksX0_isWord_1 15 rfl rfl)
theorem dX0_isWord_40 : decode cX0_isWord 40 = .ok (.bipush 97, 2) := dk_16 97 (dk_at dksX0_isWord_1 18 rfl rfl)
theorem dX0_isWord_42 : decode cX0_isWord 42 = .ok (.bipush 100, 2) := dk_16 100 (dk_at dksX0_isWord_1 20 rfl rfl)
theorem dX0_isWord_44 : decode cX0_isWord 44 = .ok (.invokestatic 56, 3) := dk_184 0 56 (dk_at dksX0_isWord_2 0 rfl rfl)
theorem dX0_isWord_47 : decode cX0_isWord 47 = .ok (.iand, 1) := dk_126 (dk_at dksX0_isWord_2 3 rfl rfl)
theorem dX0_isWord_48 : decode cX0_isWord 48 = .ok (.istore_n 1, 1) := dk_60 (dk_at dksX0_isWord_2 4 rfl rfl)
theorem dX0_isWord_49 : decode cX0_isWord 49 = .ok (.iinc 2 1, 3) := dk_132 2 1 (dk_at dksX0_isWord_2 5 rfl rfl)
theorem dX0_isWord_52 : decode cX0_isWord 52 = .ok (.goto (-32), 3) := dk_167 255 224 (dk_at dksX0_isWord_2 8 rfl rfl)
theorem dX0_isWord_55 : decode cX0_isWord 55 = .ok (.iload_n 1, 1) := dk_27 (dk_at dksX0_isWord_2 11 rfl rfl)
theorem dX0_isWord_56 : decode cX0_isWord 56 = .ok (.ireturn, 1) := dk_172 (dk_at dksX0_isWord_2 12 rfl rfl)
abbrev cX0_weightOf : ByteArray := prog_1_method_15_code
def yX0_weightOf : MethodName := ⟨RX0, "weightOf", "(LChantRules$Way;)I"⟩
def dkwX0_weightOf_0 : List UInt8 := [42, 199, 0, 8, 16, 241, 167, 0, 7, 42, 180, 0, 155, 172]
abbrev dktX0_weightOf_0 : List UInt8 := dkwX0_weightOf_0 ++ []
theorem dksX0_weightOf_0 : cX0_weightOf.data.toList.drop 0 = dktX0_weightOf_0 := by decide +kernel
theorem dX0_weightOf_0 : decode cX0_weightOf 0 = .ok (.aload_n 0, 1) := dk_42 (dk_at dksX0_weightOf_0 0 rfl rfl)
theorem dX0_weightOf_1 : decode cX0_weightOf 1 = .ok (.ifnonnull 8, 3) := dk_199 0 8 (dk_at dksX0_weightOf_0 1 rfl rfl)
theorem dX0_weightOf_4 : decode cX0_weightOf 4 = .ok (.bipush (-15), 2) := dk_16 241 (dk_at dksX0_weightOf_0 4 rfl rfl)
theorem dX0_weightOf_6 : decode cX0_weightOf 6 = .ok (.goto 7, 3) := dk_167 0 7 (dk_at dksX0_weightOf_0 6 rfl rfl)
theorem dX0_weightOf_9 : decode cX0_weightOf 9 = .ok (.aload_n 0, 1) := dk_42 (dk_at dksX0_weightOf_0 9 rfl rfl)
theorem dX0_weightOf_10 : decode cX0_weightOf 10 = .ok (.getfield 155, 3) := dk_180 0 155 (dk_at dksX0_weightOf_0 10 rfl rfl)
theorem dX0_weightOf_13 : decode cX0_weightOf 13 = .ok (.ireturn, 1) := dk_172 (dk_at dksX0_weightOf_0 13 rfl rfl)
abbrev cX0_sing : ByteArray := prog_1_method_28_code
def yX0_sing : MethodName := ⟨RX0, "sing", "(I)I"⟩
def dkwX0_sing_1 : List UInt8 := [42, 42, 180, 0, 18, 180, 0, 178, 27, 50, 42, 180, 0, 32, 182, 0, 253, 182, 1, 5, 172]
abbrev dktX0_sing_1 : List UInt8 := dkwX0_sing_1 ++ []
def dkwX0_sing_0 : List UInt8 := [27, 184, 0, 170, 154, 0, 8, 16, 245, 167, 0, 35, 42, 182, 0, 249, 154, 0, 8, 16, 244, 167, 0, 23]
abbrev dktX0_sing_0 : List UInt8 := dkwX0_sing_0 ++ dktX0_sing_1
theorem dksX0_sing_0 : cX0_sing.data.toList.drop 0 = dktX0_sing_0 := by decide +kernel
theorem dksX0_sing_1 : cX0_sing.data.toList.drop 24 = dktX0_sing_1 := dk_seg dksX0_sing_0 24 rfl rfl
theorem dX0_sing_0 : decode cX0_sing 0 = .ok (.iload_n 1, 1) := dk_27 (dk_at dksX0_sing_0 0 rfl rfl)
theorem dX0_sing_1 : decode cX0_sing 1 = .ok (.invokestatic 170, 3) := dk_184 0 170 (dk_at dksX0_sing_0 1 rfl rfl)
theorem dX0_sing_4 : decode cX0_sing 4 = .ok (.ifCond .ne 8, 3) := dk_154 0 8 (dk_at dksX0_sing_0 4 rfl rfl)
theorem dX0_sing_7 : decode cX0_sing 7 = .ok (.bipush (-11), 2) := dk_16 245 (dk_at dksX0_sing_0 7 rfl rfl)
theorem dX0_sing_9 : decode cX0_sing 9 = .ok (.goto 35, 3) := dk_167 0 35 (dk_at dksX0_sing_0 9 rfl rfl)
theorem dX0_sing_12 : decode cX0_sing 12 = .ok (.aload_n 0, 1) := dk_42 (dk_at dksX0_sing_0 12 rfl rfl)
theorem dX0_sing_13 : decode cX0_sing 13 = .ok (.invokevirtual 249, 3) := dk_182 0 249 (dk_at dksX0_sing_0 13 rfl rfl)
theorem dX0_sing_16 : decode cX0_sing 16 = .ok (.ifCond .ne 8, 3) := dk_154 0 8 (dk_at dksX0_sing_0 16 rfl rfl)
theorem dX0_sing_19 : decode cX0_sing 19 = .ok (.bipush (-12), 2) := dk_16 244 (dk_at dksX0_sing_0 19 rfl rfl)
theorem dX0_sing_21 : decode cX0_sing 21 = .ok (.goto 23, 3) := dk_167 0 23 (dk_at dksX0_sing_0 21 rfl rfl)
theorem dX0_sing_24 : decode cX0_sing 24 = .ok (.aload_n 0, 1) := dk_42 (dk_at dksX0_sing_1 0 rfl rfl)
theorem dX0_sing_25 : decode cX0_sing 25 = .ok (.aload_n 0, 1) := dk_42 (dk_at dksX0_sing_1 1 rfl rfl)
theorem dX0_sing_26 : decode cX0_sing 26 = .ok (.getfield 18, 3) := dk_180 0 18 (dk_at dksX0_sing_1 2 rfl rfl)
theorem dX0_sing_29 : decode cX0_sing 29 = .ok (.getfield 178, 3) := dk_180 0 178 (dk_at dksX0_sing_1 5 rfl rfl)
theorem dX0_sing_32 : decode cX0_sing 32 = .ok (.iload_n 1, 1) := dk_27 (dk_at dksX0_sing_1 8 rfl rfl)
theorem dX0_sing_33 : decode cX0_sing 33 = .ok (.aaload, 1) := dk_50 (dk_at dksX0_sing_1 9 rfl rfl)
theorem dX0_sing_34 : decode cX0_sing 34 = .ok (.aload_n 0, 1) := dk_42 (dk_at dksX0_sing_1 10 rfl rfl)
theorem dX0_sing_35 : decode cX0_sing 35 = .ok (.getfield 32, 3) := dk_180 0 32 (dk_at dksX0_sing_1 11 rfl rfl)
theorem dX0_sing_38 : decode cX0_sing 38 = .ok (.invokevirtual 253, 3) := dk_182 0 253 (dk_at dksX0_sing_1 14 rfl rfl)
theorem dX0_sing_41 : decode cX0_sing 41 = .ok (.invokevirtual 261, 3) := dk_182 1 5 (dk_at dksX0_sing_1 17 rfl rfl)
theorem dX0_sing_44 : decode cX0_sing 44 = .ok (.ireturn, 1) := dk_172 (dk_at dksX0_sing_1 20 rfl rfl)
abbrev cX0_sung : ByteArray := prog_1_method_26_code
def yX0_sung : MethodName := ⟨RX0, "sung", "(LChantRules$Way;)I"⟩
def dkwX0_sung_1 : List UInt8 := [182, 0, 246, 172]
abbrev dktX0_sung_1 : List UInt8 := dkwX0_sung_1 ++ []
def dkwX0_sung_0 : List UInt8 := [43, 199, 0, 6, 16, 241, 172, 42, 43, 180, 0, 238, 184, 0, 242, 181, 0, 38, 42, 180, 0, 38]
abbrev dktX0_sung_0 : List UInt8 := dkwX0_sung_0 ++ dktX0_sung_1
theorem dksX0_sung_0 : cX0_sung.data.toList.drop 0 = dktX0_sung_0 := by decide +kernel
theorem dksX0_sung_1 : cX0_sung.data.toList.drop 22 = dktX0_sung_1 := dk_seg dksX0_sung_0 22 rfl rfl
theorem dX0_sung_0 : decode cX0_sung 0 = .ok (.aload_n 1, 1) := dk_43 (dk_at dksX0_sung_0 0 rfl rfl)
theorem dX0_sung_1 : decode cX0_sung 1 = .ok (.ifnonnull 6, 3) := dk_199 0 6 (dk_at dksX0_sung_0 1 rfl rfl)
theorem dX0_sung_4 : decode cX0_sung 4 = .ok (.bipush (-15), 2) := dk_16 241 (dk_at dksX0_sung_0 4 rfl rfl)
theorem dX0_sung_6 : decode cX0_sung 6 = .ok (.ireturn, 1) := dk_172 (dk_at dksX0_sung_0 6 rfl rfl)
theorem dX0_sung_7 : decode cX0_sung 7 = .ok (.aload_n 0, 1) := dk_42 (dk_at dksX0_sung_0 7 rfl rfl)
theorem dX0_sung_8 : decode cX0_sung 8 = .ok (.aload_n 1, 1) := dk_43 (dk_at dksX0_sung_0 8 rfl rfl)
theorem dX0_sung_9 : decode cX0_sung 9 = .ok (.getfield 238, 3) := dk_180 0 238 (dk_at dksX0_sung_0 9 rfl rfl)
theorem dX0_sung_12 : decode cX0_sung 12 = .ok (.invokestatic 242, 3) := dk_184 0 242 (dk_at dksX0_sung_0 12 rfl rfl)
theorem dX0_sung_15 : decode cX0_sung 15 = .ok (.putfield 38, 3) := dk_181 0 38 (dk_at dksX0_sung_0 15 rfl rfl)
theorem dX0_sung_18 : decode cX0_sung 18 = .ok (.aload_n 0, 1) := dk_42 (dk_at dksX0_sung_0 18 rfl rfl)
theorem dX0_sung_19 : decode cX0_sung 19 = .ok (.getfield 38, 3) := dk_180 0 38 (dk_at dksX0_sung_0 19 rfl rfl)
theorem dX0_sung_22 : decode cX0_sung 22 = .ok (.invokevirtual 246, 3) := dk_182 0 246 (dk_at dksX0_sung_1 0 rfl rfl)
theorem dX0_sung_25 : decode cX0_sung 25 = .ok (.ireturn, 1) := dk_172 (dk_at dksX0_sung_1 3 rfl rfl)
abbrev cX0_textOf : ByteArray := prog_1_method_14_code
def yX0_textOf : MethodName := ⟨RX0, "textOf", "(LChantRules$Letter;)Ljava/lang/String;"⟩
def dkwX0_textOf_0 : List UInt8 := [187, 0, 29, 89, 183, 0, 31, 76, 42, 198, 0, 8, 42, 43, 182, 0, 149, 43, 182, 0, 145, 176]
abbrev dktX0_textOf_0 : List UInt8 := dkwX0_textOf_0 ++ []
theorem dksX0_textOf_0 : cX0_textOf.data.toList.drop 0 = dktX0_textOf_0 := by decide +kernel
theorem dX0_textOf_0 : decode cX0_textOf 0 = .ok (.new 29, 3) := dk_187 0 29 (dk_at dksX0_textOf_0 0 rfl rfl)
theorem dX0_textOf_3 : decode cX0_textOf 3 = .ok (.dup, 1) := dk_89 (dk_at dksX0_textOf_0 3 rfl rfl)
theorem dX0_textOf_4 : decode cX0_textOf 4 = .ok (.invokespecial 31, 3) := dk_183 0 31 (dk_at dksX0_textOf_0 4 rfl rfl)
theorem dX0_textOf_7 : decode cX0_textOf 7 = .ok (.astore_n 1, 1) := dk_76 (dk_at dksX0_textOf_0 7 rfl rfl)
theorem dX0_textOf_8 : decode cX0_textOf 8 = .ok (.aload_n 0, 1) := dk_42 (dk_at dksX0_textOf_0 8 rfl rfl)
theorem dX0_textOf_9 : decode cX0_textOf 9 = .ok (.ifnull 8, 3) := dk_198 0 8 (dk_at dksX0_textOf_0 9 rfl rfl)
theorem dX0_textOf_12 : decode cX0_textOf 12 = .ok (.aload_n 0, 1) := dk_42 (dk_at dksX0_textOf_0 12 rfl rfl)
theorem dX0_textOf_13 : decode cX0_textOf 13 = .ok (.aload_n 1, 1) := dk_43 (dk_at dksX0_textOf_0 13 rfl rfl)
theorem dX0_textOf_14 : decode cX0_textOf 14 = .ok (.invokevirtual 149, 3) := dk_182 0 149 (dk_at dksX0_textOf_0 14 rfl rfl)
theorem dX0_textOf_17 : decode cX0_textOf 17 = .ok (.aload_n 1, 1) := dk_43 (dk_at dksX0_textOf_0 17 rfl rfl)
theorem dX0_textOf_18 : decode cX0_textOf 18 = .ok (.invokevirtual 145, 3) := dk_182 0 145 (dk_at dksX0_textOf_0 18 rfl rfl)
theorem dX0_textOf_21 : decode cX0_textOf 21 = .ok (.areturn, 1) := dk_176 (dk_at dksX0_textOf_0 21 rfl rfl)
abbrev cX0_sound : ByteArray := prog_1_method_8_code
def yX0_sound : MethodName := ⟨RX0, "sound", "(I)LChantRules$Sound;"⟩
def dkwX0_sound_3 : List UInt8 := [178, 0, 97, 176]
abbrev dktX0_sound_3 : List UInt8 := dkwX0_sound_3 ++ []
def dkwX0_sound_2 : List UInt8 := [178, 0, 84, 167, 0, 24, 178, 0, 88, 167, 0, 18, 178, 0, 91, 167, 0, 12, 178, 0, 94, 167, 0, 6]
abbrev dktX0_sound_2 : List UInt8 := dkwX0_sound_2 ++ dktX0_sound_3
def dkwX0_sound_1 : List UInt8 := [170, 0, 0, 0, 0, 0, 55, 0, 0, 0, 0, 0, 0, 0, 3, 0, 0, 0, 31, 0, 0, 0, 37, 0, 0, 0, 43, 0, 0, 0, 49]
abbrev dktX0_sound_1 : List UInt8 := dkwX0_sound_1 ++ dktX0_sound_2
def dkwX0_sound_0 : List UInt8 := [26]
abbrev dktX0_sound_0 : List UInt8 := dkwX0_sound_0 ++ dktX0_sound_1
theorem dksX0_sound_0 : cX0_sound.data.toList.drop 0 = dktX0_sound_0 := by decide +kernel
theorem dksX0_sound_1 : cX0_sound.data.toList.drop 1 = dktX0_sound_1 := dk_seg dksX0_sound_0 1 rfl rfl
theorem dksX0_sound_2 : cX0_sound.data.toList.drop 32 = dktX0_sound_2 := dk_seg dksX0_sound_1 31 rfl rfl
theorem dksX0_sound_3 : cX0_sound.data.toList.drop 56 = dktX0_sound_3 := dk_seg dksX0_sound_2 24 rfl rfl
theorem dX0_sound_0 : decode cX0_sound 0 = .ok (.iload_n 0, 1) := dk_26 (dk_at dksX0_sound_0 0 rfl rfl)
theorem dX0_sound_1 : decode cX0_sound 1 = .ok (.tableswitch 55 0 3 #[31, 37, 43, 49], 31) := by decide +kernel
theorem dX0_sound_32 : decode cX0_sound 32 = .ok (.getstatic 84, 3) := dk_178 0 84 (dk_at dksX0_sound_2 0 rfl rfl)
theorem dX0_sound_35 : decode cX0_sound 35 = .ok (.goto 24, 3) := dk_167 0 24 (dk_at dksX0_sound_2 3 rfl rfl)
theorem dX0_sound_38 : decode cX0_sound 38 = .ok (.getstatic 88, 3) := dk_178 0 88 (dk_at dksX0_sound_2 6 rfl rfl)
theorem dX0_sound_41 : decode cX0_sound 41 = .ok (.goto 18, 3) := dk_167 0 18 (dk_at dksX0_sound_2 9 rfl rfl)
theorem dX0_sound_44 : decode cX0_sound 44 = .ok (.getstatic 91, 3) := dk_178 0 91 (dk_at dksX0_sound_2 12 rfl rfl)
theorem dX0_sound_47 : decode cX0_sound 47 = .ok (.goto 12, 3) := dk_167 0 12 (dk_at dksX0_sound_2 15 rfl rfl)
theorem dX0_sound_50 : decode cX0_sound 50 = .ok (.getstatic 94, 3) := dk_178 0 94 (dk_at dksX0_sound_2 18 rfl rfl)
theorem dX0_sound_53 : decode cX0_sound 53 = .ok (.goto 6, 3) := dk_167 0 6 (dk_at dksX0_sound_2 21 rfl rfl)
theorem dX0_sound_56 : decode cX0_sound 56 = .ok (.getstatic 97, 3) := dk_178 0 97 (dk_at dksX0_sound_3 0 rfl rfl)
theorem dX0_sound_59 : decode cX0_sound 59 = .ok (.areturn, 1) := dk_176 (dk_at dksX0_sound_3 3 rfl rfl)
abbrev cX0_both : ByteArray := prog_1_method_29_code
def yX0_both : MethodName := ⟨RX0, "both", "()I"⟩
def dkwX0_both_1 : List UInt8 := [182, 1, 12, 184, 1, 1, 167, 0, 5, 16, 244, 172]
abbrev dktX0_both_1 : List UInt8 := dkwX0_both_1 ++ []
def dkwX0_both_0 : List UInt8 := [42, 182, 0, 249, 153, 0, 27, 42, 180, 0, 18, 42, 180, 0, 11, 182, 1, 8, 42, 180, 0, 32]
abbrev dktX0_both_0 : List UInt8 := dkwX0_both_0 ++ dktX0_both_1
theorem dksX0_both_0 : cX0_both.data.toList.drop 0 = dktX0_both_0 := by decide +kernel
theorem dksX0_both_1 : cX0_both.data.toList.drop 22 = dktX0_both_1 := dk_seg dksX0_both_0 22 rfl rfl
theorem dX0_both_0 : decode cX0_both 0 = .ok (.aload_n 0, 1) := dk_42 (dk_at dksX0_both_0 0 rfl rfl)
theorem dX0_both_1 : decode cX0_both 1 = .ok (.invokevirtual 249, 3) := dk_182 0 249 (dk_at dksX0_both_0 1 rfl rfl)
theorem dX0_both_4 : decode cX0_both 4 = .ok (.ifCond .eq 27, 3) := dk_153 0 27 (dk_at dksX0_both_0 4 rfl rfl)
theorem dX0_both_7 : decode cX0_both 7 = .ok (.aload_n 0, 1) := dk_42 (dk_at dksX0_both_0 7 rfl rfl)
theorem dX0_both_8 : decode cX0_both 8 = .ok (.getfield 18, 3) := dk_180 0 18 (dk_at dksX0_both_0 8 rfl rfl)
theorem dX0_both_11 : decode cX0_both 11 = .ok (.aload_n 0, 1) := dk_42 (dk_at dksX0_both_0 11 rfl rfl)
theorem dX0_both_12 : decode cX0_both 12 = .ok (.getfield 11, 3) := dk_180 0 11 (dk_at dksX0_both_0 12 rfl rfl)
theorem dX0_both_15 : decode cX0_both 15 = .ok (.invokevirtual 264, 3) := dk_182 1 8 (dk_at dksX0_both_0 15 rfl rfl)
theorem dX0_both_18 : decode cX0_both 18 = .ok (.aload_n 0, 1) := dk_42 (dk_at dksX0_both_0 18 rfl rfl)
theorem dX0_both_19 : decode cX0_both 19 = .ok (.getfield 32, 3) := dk_180 0 32 (dk_at dksX0_both_0 19 rfl rfl)
theorem dX0_both_22 : decode cX0_both 22 = .ok (.invokevirtual 268, 3) := dk_182 1 12 (dk_at dksX0_both_1 0 rfl rfl)
theorem dX0_both_25 : decode cX0_both 25 = .ok (.invokestatic 257, 3) := dk_184 1 1 (dk_at dksX0_both_1 3 rfl rfl)
theorem dX0_both_28 : decode cX0_both 28 = .ok (.goto 5, 3) := dk_167 0 5 (dk_at dksX0_both_1 6 rfl rfl)
theorem dX0_both_31 : decode cX0_both 31 = .ok (.bipush (-12), 2) := dk_16 244 (dk_at dksX0_both_1 9 rfl rfl)
theorem dX0_both_33 : decode cX0_both 33 = .ok (.ireturn, 1) := dk_172 (dk_at dksX0_both_1 11 rfl rfl)
abbrev cX0_bothAgain : ByteArray := prog_1_method_30_code
def yX0_bothAgain : MethodName := ⟨RX0, "bothAgain", "()I"⟩
def dkwX0_bothAgain_0 : List UInt8 := [42, 182, 0, 249, 153, 0, 17, 42, 180, 0, 18, 42, 180, 0, 32, 182, 1, 15, 167, 0, 5, 16, 244, 172]
abbrev dktX0_bothAgain_0 : List UInt8 := dkwX0_bothAgain_0 ++ []
theorem dksX0_bothAgain_0 : cX0_bothAgain.data.toList.drop 0 = dktX0_bothAgain_0 := by decide +kernel
theorem dX0_bothAgain_0 : decode cX0_bothAgain 0 = .ok (.aload_n 0, 1) := dk_42 (dk_at dksX0_bothAgain_0 0 rfl rfl)
theorem dX0_bothAgain_1 : decode cX0_bothAgain 1 = .ok (.invokevirtual 249, 3) := dk_182 0 249 (dk_at dksX0_bothAgain_0 1 rfl rfl)
theorem dX0_bothAgain_4 : decode cX0_bothAgain 4 = .ok (.ifCond .eq 17, 3) := dk_153 0 17 (dk_at dksX0_bothAgain_0 4 rfl rfl)
theorem dX0_bothAgain_7 : decode cX0_bothAgain 7 = .ok (.aload_n 0, 1) := dk_42 (dk_at dksX0_bothAgain_0 7 rfl rfl)
theorem dX0_bothAgain_8 : decode cX0_bothAgain 8 = .ok (.getfield 18, 3) := dk_180 0 18 (dk_at dksX0_bothAgain_0 8 rfl rfl)
theorem dX0_bothAgain_11 : decode cX0_bothAgain 11 = .ok (.aload_n 0, 1) := dk_42 (dk_at dksX0_bothAgain_0 11 rfl rfl)
theorem dX0_bothAgain_12 : decode cX0_bothAgain 12 = .ok (.getfield 32, 3) := dk_180 0 32 (dk_at dksX0_bothAgain_0 12 rfl rfl)
theorem dX0_bothAgain_15 : decode cX0_bothAgain 15 = .ok (.invokevirtual 271, 3) := dk_182 1 15 (dk_at dksX0_bothAgain_0 15 rfl rfl)
theorem dX0_bothAgain_18 : decode cX0_bothAgain 18 = .ok (.goto 5, 3) := dk_167 0 5 (dk_at dksX0_bothAgain_0 18 rfl rfl)
theorem dX0_bothAgain_21 : decode cX0_bothAgain 21 = .ok (.bipush (-12), 2) := dk_16 244 (dk_at dksX0_bothAgain_0 21 rfl rfl)
theorem dX0_bothAgain_23 : decode cX0_bothAgain 23 = .ok (.ireturn, 1) := dk_172 (dk_at dksX0_bothAgain_0 23 rfl rfl)
abbrev cX0_singBoth : ByteArray := prog_1_method_31_code
def yX0_singBoth : MethodName := ⟨RX0, "singBoth", "()I"⟩
def dkwX0_singBoth_1 : List UInt8 := [182, 1, 12, 182, 1, 5, 167, 0, 5, 16, 244, 172]
abbrev dktX0_singBoth_1 : List UInt8 := dkwX0_singBoth_1 ++ []
def dkwX0_singBoth_0 : List UInt8 := [42, 182, 0, 249, 153, 0, 28, 42, 42, 180, 0, 18, 42, 180, 0, 11, 182, 1, 8, 42, 180, 0, 32]
abbrev dktX0_singBoth_0 : List UInt8 := dkwX0_singBoth_0 ++ dktX0_singBoth_1
theorem dksX0_singBoth_0 : cX0_singBoth.data.toList.drop 0 = dktX0_singBoth_0 := by decide +kernel
theorem dksX0_singBoth_1 : cX0_singBoth.data.toList.drop 23 = dktX0_singBoth_1 := dk_seg dksX0_singBoth_0 23 rfl rfl
theorem dX0_singBoth_0 : decode cX0_singBoth 0 = .ok (.aload_n 0, 1) := dk_42 (dk_at dksX0_singBoth_0 0 rfl rfl)
theorem dX0_singBoth_1 : decode cX0_singBoth 1 = .ok (.invokevirtual 249, 3) := dk_182 0 249 (dk_at dksX0_singBoth_0 1 rfl rfl)
theorem dX0_singBoth_4 : decode cX0_singBoth 4 = .ok (.ifCond .eq 28, 3) := dk_153 0 28 (dk_at dksX0_singBoth_0 4 rfl rfl)
theorem dX0_singBoth_7 : decode cX0_singBoth 7 = .ok (.aload_n 0, 1) := dk_42 (dk_at dksX0_singBoth_0 7 rfl rfl)
theorem dX0_singBoth_8 : decode cX0_singBoth 8 = .ok (.aload_n 0, 1) := dk_42 (dk_at dksX0_singBoth_0 8 rfl rfl)
theorem dX0_singBoth_9 : decode cX0_singBoth 9 = .ok (.getfield 18, 3) := dk_180 0 18 (dk_at dksX0_singBoth_0 9 rfl rfl)
theorem dX0_singBoth_12 : decode cX0_singBoth 12 = .ok (.aload_n 0, 1) := dk_42 (dk_at dksX0_singBoth_0 12 rfl rfl)
theorem dX0_singBoth_13 : decode cX0_singBoth 13 = .ok (.getfield 11, 3) := dk_180 0 11 (dk_at dksX0_singBoth_0 13 rfl rfl)
theorem dX0_singBoth_16 : decode cX0_singBoth 16 = .ok (.invokevirtual 264, 3) := dk_182 1 8 (dk_at dksX0_singBoth_0 16 rfl rfl)
theorem dX0_singBoth_19 : decode cX0_singBoth 19 = .ok (.aload_n 0, 1) := dk_42 (dk_at dksX0_singBoth_0 19 rfl rfl)
theorem dX0_singBoth_20 : decode cX0_singBoth 20 = .ok (.getfield 32, 3) := dk_180 0 32 (dk_at dksX0_singBoth_0 20 rfl rfl)
theorem dX0_singBoth_23 : decode cX0_singBoth 23 = .ok (.invokevirtual 268, 3) := dk_182 1 12 (dk_at dksX0_singBoth_1 0 rfl rfl)
theorem dX0_singBoth_26 : decode cX0_singBoth 26 = .ok (.invokevirtual 261, 3) := dk_182 1 5 (dk_at dksX0_singBoth_1 3 rfl rfl)
theorem dX0_singBoth_29 : decode cX0_singBoth 29 = .ok (.goto 5, 3) := dk_167 0 5 (dk_at dksX0_singBoth_1 6 rfl rfl)
theorem dX0_singBoth_32 : decode cX0_singBoth 32 = .ok (.bipush (-12), 2) := dk_16 244 (dk_at dksX0_singBoth_1 9 rfl rfl)
theorem dX0_singBoth_34 : decode cX0_singBoth 34 = .ok (.ireturn, 1) := dk_172 (dk_at dksX0_singBoth_1 11 rfl rfl)
abbrev cX0_composed : ByteArray := prog_1_method_32_code
def yX0_composed : MethodName := ⟨RX0, "composed", "(I)I"⟩
def dkwX0_composed_0 : List UInt8 := [42, 180, 0, 18, 42, 180, 0, 11, 182, 1, 8, 27, 182, 1, 19, 172]
abbrev dktX0_composed_0 : List UInt8 := dkwX0_composed_0 ++ []
theorem dksX0_composed_0 : cX0_composed.data.toList.drop 0 = dktX0_composed_0 := by decide +kernel
theorem dX0_composed_0 : decode cX0_composed 0 = .ok (.aload_n 0, 1) := dk_42 (dk_at dksX0_composed_0 0 rfl rfl)
theorem dX0_composed_1 : decode cX0_composed 1 = .ok (.getfield 18, 3) := dk_180 0 18 (dk_at dksX0_composed_0 1 rfl rfl)
theorem dX0_composed_4 : decode cX0_composed 4 = .ok (.aload_n 0, 1) := dk_42 (dk_at dksX0_composed_0 4 rfl rfl)
theorem dX0_composed_5 : decode cX0_composed 5 = .ok (.getfield 11, 3) := dk_180 0 11 (dk_at dksX0_composed_0 5 rfl rfl)
theorem dX0_composed_8 : decode cX0_composed 8 = .ok (.invokevirtual 264, 3) := dk_182 1 8 (dk_at dksX0_composed_0 8 rfl rfl)
theorem dX0_composed_11 : decode cX0_composed 11 = .ok (.iload_n 1, 1) := dk_27 (dk_at dksX0_composed_0 11 rfl rfl)
theorem dX0_composed_12 : decode cX0_composed 12 = .ok (.invokevirtual 275, 3) := dk_182 1 19 (dk_at dksX0_composed_0 12 rfl rfl)
theorem dX0_composed_15 : decode cX0_composed 15 = .ok (.ireturn, 1) := dk_172 (dk_at dksX0_composed_0 15 rfl rfl)
abbrev cX0_cheapest : ByteArray := prog_1_method_33_code
def yX0_cheapest : MethodName := ⟨RX0, "cheapest", "(I)I"⟩
def dkwX0_cheapest_1 : List UInt8 := [16, 245, 172]
abbrev dktX0_cheapest_1 : List UInt8 := dkwX0_cheapest_1 ++ []
def dkwX0_cheapest_0 : List UInt8 := [27, 184, 0, 170, 153, 0, 19, 42, 180, 0, 18, 180, 0, 178, 27, 50, 4, 182, 1, 22, 167, 0, 5]
abbrev dktX0_cheapest_0 : List UInt8 := dkwX0_cheapest_0 ++ dktX0_cheapest_1
theorem dksX0_cheapest_0 : cX0_cheapest.data.toList.drop 0 = dktX0_cheapest_0 := by decide +kernel
theorem dksX0_cheapest_1 : cX0_cheapest.data.toList.drop 23 = dktX0_cheapest_1 := dk_seg dksX0_cheapest_0 23 rfl rfl
theorem dX0_cheapest_0 : decode cX0_cheapest 0 = .ok (.iload_n 1, 1) := dk_27 (dk_at dksX0_cheapest_0 0 rfl rfl)
theorem dX0_cheapest_1 : decode cX0_cheapest 1 = .ok (.invokestatic 170, 3) := dk_184 0 170 (dk_at dksX0_cheapest_0 1 rfl rfl)
theorem dX0_cheapest_4 : decode cX0_cheapest 4 = .ok (.ifCond .eq 19, 3) := dk_153 0 19 (dk_at dksX0_cheapest_0 4 rfl rfl)
theorem dX0_cheapest_7 : decode cX0_cheapest 7 = .ok (.aload_n 0, 1) := dk_42 (dk_at dksX0_cheapest_0 7 rfl rfl)
theorem dX0_cheapest_8 : decode cX0_cheapest 8 = .ok (.getfield 18, 3) := dk_180 0 18 (dk_at dksX0_cheapest_0 8 rfl rfl)
theorem dX0_cheapest_11 : decode cX0_cheapest 11 = .ok (.getfield 178, 3) := dk_180 0 178 (dk_at dksX0_cheapest_0 11 rfl rfl)
theorem dX0_cheapest_14 : decode cX0_cheapest 14 = .ok (.iload_n 1, 1) := dk_27 (dk_at dksX0_cheapest_0 14 rfl rfl)
theorem dX0_cheapest_15 : decode cX0_cheapest 15 = .ok (.aaload, 1) := dk_50 (dk_at dksX0_cheapest_0 15 rfl rfl)
theorem dX0_cheapest_16 : decode cX0_cheapest 16 = .ok (.iconst 1, 1) := dk_4 (dk_at dksX0_cheapest_0 16 rfl rfl)
theorem dX0_cheapest_17 : decode cX0_cheapest 17 = .ok (.invokevirtual 278, 3) := dk_182 1 22 (dk_at dksX0_cheapest_0 17 rfl rfl)
theorem dX0_cheapest_20 : decode cX0_cheapest 20 = .ok (.goto 5, 3) := dk_167 0 5 (dk_at dksX0_cheapest_0 20 rfl rfl)
theorem dX0_cheapest_23 : decode cX0_cheapest 23 = .ok (.bipush (-11), 2) := dk_16 245 (dk_at dksX0_cheapest_1 0 rfl rfl)
theorem dX0_cheapest_25 : decode cX0_cheapest 25 = .ok (.ireturn, 1) := dk_172 (dk_at dksX0_cheapest_1 2 rfl rfl)
abbrev cX0_shortest : ByteArray := prog_1_method_34_code
def yX0_shortest : MethodName := ⟨RX0, "shortest", "(I)I"⟩
def dkwX0_shortest_1 : List UInt8 := [16, 245, 172]
abbrev dktX0_shortest_1 : List UInt8 := dkwX0_shortest_1 ++ []
def dkwX0_shortest_0 : List UInt8 := [27, 184, 0, 170, 153, 0, 19, 42, 180, 0, 18, 180, 0, 178, 27, 50, 3, 182, 1, 22, 167, 0, 5]
abbrev dktX0_shortest_0 : List UInt8 := dkwX0_shortest_0 ++ dktX0_shortest_1
theorem dksX0_shortest_0 : cX0_shortest.data.toList.drop 0 = dktX0_shortest_0 := by decide +kernel
theorem dksX0_shortest_1 : cX0_shortest.data.toList.drop 23 = dktX0_shortest_1 := dk_seg dksX0_shortest_0 23 rfl rfl
theorem dX0_shortest_0 : decode cX0_shortest 0 = .ok (.iload_n 1, 1) := dk_27 (dk_at dksX0_shortest_0 0 rfl rfl)
theorem dX0_shortest_1 : decode cX0_shortest 1 = .ok (.invokestatic 170, 3) := dk_184 0 170 (dk_at dksX0_shortest_0 1 rfl rfl)
theorem dX0_shortest_4 : decode cX0_shortest 4 = .ok (.ifCond .eq 19, 3) := dk_153 0 19 (dk_at dksX0_shortest_0 4 rfl rfl)
theorem dX0_shortest_7 : decode cX0_shortest 7 = .ok (.aload_n 0, 1) := dk_42 (dk_at dksX0_shortest_0 7 rfl rfl)
theorem dX0_shortest_8 : decode cX0_shortest 8 = .ok (.getfield 18, 3) := dk_180 0 18 (dk_at dksX0_shortest_0 8 rfl rfl)
theorem dX0_shortest_11 : decode cX0_shortest 11 = .ok (.getfield 178, 3) := dk_180 0 178 (dk_at dksX0_shortest_0 11 rfl rfl)
theorem dX0_shortest_14 : decode cX0_shortest 14 = .ok (.iload_n 1, 1) := dk_27 (dk_at dksX0_shortest_0 14 rfl rfl)
theorem dX0_shortest_15 : decode cX0_shortest 15 = .ok (.aaload, 1) := dk_50 (dk_at dksX0_shortest_0 15 rfl rfl)
theorem dX0_shortest_16 : decode cX0_shortest 16 = .ok (.iconst 0, 1) := dk_3 (dk_at dksX0_shortest_0 16 rfl rfl)
theorem dX0_shortest_17 : decode cX0_shortest 17 = .ok (.invokevirtual 278, 3) := dk_182 1 22 (dk_at dksX0_shortest_0 17 rfl rfl)
theorem dX0_shortest_20 : decode cX0_shortest 20 = .ok (.goto 5, 3) := dk_167 0 5 (dk_at dksX0_shortest_0 20 rfl rfl)
theorem dX0_shortest_23 : decode cX0_shortest 23 = .ok (.bipush (-11), 2) := dk_16 245 (dk_at dksX0_shortest_1 0 rfl rfl)
theorem dX0_shortest_25 : decode cX0_shortest 25 = .ok (.ireturn, 1) := dk_172 (dk_at dksX0_shortest_1 2 rfl rfl)
abbrev cX0_breathes : ByteArray := prog_1_method_35_code
def yX0_breathes : MethodName := ⟨RX0, "breathes", "(I)I"⟩
def dkwX0_breathes_1 : List UInt8 := [153, 0, 7, 4, 167, 0, 4, 3, 172]
abbrev dktX0_breathes_1 : List UInt8 := dkwX0_breathes_1 ++ []
def dkwX0_breathes_0 : List UInt8 := [27, 184, 0, 170, 154, 0, 8, 16, 245, 167, 0, 23, 42, 180, 0, 18, 180, 0, 178, 27, 50, 182, 1, 26]
abbrev dktX0_breathes_0 : List UInt8 := dkwX0_breathes_0 ++ dktX0_breathes_1
theorem dksX0_breathes_0 : cX0_breathes.data.toList.drop 0 = dktX0_breathes_0 := by decide +kernel
theorem dksX0_breathes_1 : cX0_breathes.data.toList.drop 24 = dktX0_breathes_1 := dk_seg dksX0_breathes_0 24 rfl rfl
theorem dX0_breathes_0 : decode cX0_breathes 0 = .ok (.iload_n 1, 1) := dk_27 (dk_at dksX0_breathes_0 0 rfl rfl)
theorem dX0_breathes_1 : decode cX0_breathes 1 = .ok (.invokestatic 170, 3) := dk_184 0 170 (dk_at dksX0_breathes_0 1 rfl rfl)
theorem dX0_breathes_4 : decode cX0_breathes 4 = .ok (.ifCond .ne 8, 3) := dk_154 0 8 (dk_at dksX0_breathes_0 4 rfl rfl)
theorem dX0_breathes_7 : decode cX0_breathes 7 = .ok (.bipush (-11), 2) := dk_16 245 (dk_at dksX0_breathes_0 7 rfl rfl)
theorem dX0_breathes_9 : decode cX0_breathes 9 = .ok (.goto 23, 3) := dk_167 0 23 (dk_at dksX0_breathes_0 9 rfl rfl)
theorem dX0_breathes_12 : decode cX0_breathes 12 = .ok (.aload_n 0, 1) := dk_42 (dk_at dksX0_breathes_0 12 rfl rfl)
theorem dX0_breathes_13 : decode cX0_breathes 13 = .ok (.getfield 18, 3) := dk_180 0 18 (dk_at dksX0_breathes_0 13 rfl rfl)
theorem dX0_breathes_16 : decode cX0_breathes 16 = .ok (.getfield 178, 3) := dk_180 0 178 (dk_at dksX0_breathes_0 16 rfl rfl)
theorem dX0_breathes_19 : decode cX0_breathes 19 = .ok (.iload_n 1, 1) := dk_27 (dk_at dksX0_breathes_0 19 rfl rfl)
theorem dX0_breathes_20 : decode cX0_breathes 20 = .ok (.aaload, 1) := dk_50 (dk_at dksX0_breathes_0 20 rfl rfl)
theorem dX0_breathes_21 : decode cX0_breathes 21 = .ok (.invokevirtual 282, 3) := dk_182 1 26 (dk_at dksX0_breathes_0 21 rfl rfl)
theorem dX0_breathes_24 : decode cX0_breathes 24 = .ok (.ifCond .eq 7, 3) := dk_153 0 7 (dk_at dksX0_breathes_1 0 rfl rfl)
theorem dX0_breathes_27 : decode cX0_breathes 27 = .ok (.iconst 1, 1) := dk_4 (dk_at dksX0_breathes_1 3 rfl rfl)
theorem dX0_breathes_28 : decode cX0_breathes 28 = .ok (.goto 4, 3) := dk_167 0 4 (dk_at dksX0_breathes_1 4 rfl rfl)
theorem dX0_breathes_31 : decode cX0_breathes 31 = .ok (.iconst 0, 1) := dk_3 (dk_at dksX0_breathes_1 7 rfl rfl)
theorem dX0_breathes_32 : decode cX0_breathes 32 = .ok (.ireturn, 1) := dk_172 (dk_at dksX0_breathes_1 8 rfl rfl)
abbrev cX0_ranked : ByteArray := prog_1_method_36_code
def yX0_ranked : MethodName := ⟨RX0, "ranked", "(II)I"⟩
def dkwX0_ranked_1 : List UInt8 := [16, 245, 172]
abbrev dktX0_ranked_1 : List UInt8 := dkwX0_ranked_1 ++ []
def dkwX0_ranked_0 : List UInt8 := [27, 184, 0, 170, 153, 0, 19, 42, 180, 0, 18, 180, 0, 178, 27, 50, 28, 182, 1, 29, 167, 0, 5]
abbrev dktX0_ranked_0 : List UInt8 := dkwX0_ranked_0 ++ dktX0_ranked_1
theorem dksX0_ranked_0 : cX0_ranked.data.toList.drop 0 = dktX0_ranked_0 := by decide +kernel
theorem dksX0_ranked_1 : cX0_ranked.data.toList.drop 23 = dktX0_ranked_1 := dk_seg dksX0_ranked_0 23 rfl rfl
theorem dX0_ranked_0 : decode cX0_ranked 0 = .ok (.iload_n 1, 1) := dk_27 (dk_at dksX0_ranked_0 0 rfl rfl)
theorem dX0_ranked_1 : decode cX0_ranked 1 = .ok (.invokestatic 170, 3) := dk_184 0 170 (dk_at dksX0_ranked_0 1 rfl rfl)
theorem dX0_ranked_4 : decode cX0_ranked 4 = .ok (.ifCond .eq 19, 3) := dk_153 0 19 (dk_at dksX0_ranked_0 4 rfl rfl)
theorem dX0_ranked_7 : decode cX0_ranked 7 = .ok (.aload_n 0, 1) := dk_42 (dk_at dksX0_ranked_0 7 rfl rfl)
theorem dX0_ranked_8 : decode cX0_ranked 8 = .ok (.getfield 18, 3) := dk_180 0 18 (dk_at dksX0_ranked_0 8 rfl rfl)
theorem dX0_ranked_11 : decode cX0_ranked 11 = .ok (.getfield 178, 3) := dk_180 0 178 (dk_at dksX0_ranked_0 11 rfl rfl)
theorem dX0_ranked_14 : decode cX0_ranked 14 = .ok (.iload_n 1, 1) := dk_27 (dk_at dksX0_ranked_0 14 rfl rfl)
theorem dX0_ranked_15 : decode cX0_ranked 15 = .ok (.aaload, 1) := dk_50 (dk_at dksX0_ranked_0 15 rfl rfl)
theorem dX0_ranked_16 : decode cX0_ranked 16 = .ok (.iload_n 2, 1) := dk_28 (dk_at dksX0_ranked_0 16 rfl rfl)
theorem dX0_ranked_17 : decode cX0_ranked 17 = .ok (.invokevirtual 285, 3) := dk_182 1 29 (dk_at dksX0_ranked_0 17 rfl rfl)
theorem dX0_ranked_20 : decode cX0_ranked 20 = .ok (.goto 5, 3) := dk_167 0 5 (dk_at dksX0_ranked_0 20 rfl rfl)
theorem dX0_ranked_23 : decode cX0_ranked 23 = .ok (.bipush (-11), 2) := dk_16 245 (dk_at dksX0_ranked_1 0 rfl rfl)
theorem dX0_ranked_25 : decode cX0_ranked 25 = .ok (.ireturn, 1) := dk_172 (dk_at dksX0_ranked_1 2 rfl rfl)
abbrev cX0_append : ByteArray := prog_1_method_37_code
def yX0_append : MethodName := ⟨RX0, "append", "(I)I"⟩
def dkwX0_append_1 : List UInt8 := [160, 0, 6, 16, 243, 172, 42, 180, 0, 32, 27, 146, 182, 0, 134, 87, 42, 180, 0, 32, 182, 0, 231, 172]
abbrev dktX0_append_1 : List UInt8 := dkwX0_append_1 ++ []
def dkwX0_append_0 : List UInt8 := [27, 16, 32, 16, 126, 184, 0, 56, 154, 0, 6, 16, 244, 172, 42, 180, 0, 32, 182, 0, 231, 16, 60]
abbrev dktX0_append_0 : List UInt8 := dkwX0_append_0 ++ dktX0_append_1
theorem dksX0_append_0 : cX0_append.data.toList.drop 0 = dktX0_append_0 := by decide +kernel
theorem dksX0_append_1 : cX0_append.data.toList.drop 23 = dktX0_append_1 := dk_seg dksX0_append_0 23 rfl rfl
theorem dX0_append_0 : decode cX0_append 0 = .ok (.iload_n 1, 1) := dk_27 (dk_at dksX0_append_0 0 rfl rfl)
theorem dX0_append_1 : decode cX0_append 1 = .ok (.bipush 32, 2) := dk_16 32 (dk_at dksX0_append_0 1 rfl rfl)
theorem dX0_append_3 : decode cX0_append 3 = .ok (.bipush 126, 2) := dk_16 126 (dk_at dksX0_append_0 3 rfl rfl)
theorem dX0_append_5 : decode cX0_append 5 = .ok (.invokestatic 56, 3) := dk_184 0 56 (dk_at dksX0_append_0 5 rfl rfl)
theorem dX0_append_8 : decode cX0_append 8 = .ok (.ifCond .ne 6, 3) := dk_154 0 6 (dk_at dksX0_append_0 8 rfl rfl)
theorem dX0_append_11 : decode cX0_append 11 = .ok (.bipush (-12), 2) := dk_16 244 (dk_at dksX0_append_0 11 rfl rfl)
theorem dX0_append_13 : decode cX0_append 13 = .ok (.ireturn, 1) := dk_172 (dk_at dksX0_append_0 13 rfl rfl)
theorem dX0_append_14 : decode cX0_append 14 = .ok (.aload_n 0, 1) := dk_42 (dk_at dksX0_append_0 14 rfl rfl)
theorem dX0_append_15 : decode cX0_append 15 = .ok (.getfield 32, 3) := dk_180 0 32 (dk_at dksX0_append_0 15 rfl rfl)
theorem dX0_append_18 : decode cX0_append 18 = .ok (.invokevirtual 231, 3) := dk_182 0 231 (dk_at dksX0_append_0 18 rfl rfl)
theorem dX0_append_21 : decode cX0_append 21 = .ok (.bipush 60, 2) := dk_16 60 (dk_at dksX0_append_0 21 rfl rfl)
theorem dX0_append_23 : decode cX0_append 23 = .ok (.if_icmp .ne 6, 3) := dk_160 0 6 (dk_at dksX0_append_1 0 rfl rfl)
theorem dX0_append_26 : decode cX0_append 26 = .ok (.bipush (-13), 2) := dk_16 243 (dk_at dksX0_append_1 3 rfl rfl)
theorem dX0_append_28 : decode cX0_append 28 = .ok (.ireturn, 1) := dk_172 (dk_at dksX0_append_1 5 rfl rfl)
theorem dX0_append_29 : decode cX0_append 29 = .ok (.aload_n 0, 1) := dk_42 (dk_at dksX0_append_1 6 rfl rfl)
theorem dX0_append_30 : decode cX0_append 30 = .ok (.getfield 32, 3) := dk_180 0 32 (dk_at dksX0_append_1 7 rfl rfl)
theorem dX0_append_33 : decode cX0_append 33 = .ok (.iload_n 1, 1) := dk_27 (dk_at dksX0_append_1 10 rfl rfl)
theorem dX0_append_34 : decode cX0_append 34 = .ok (.i2c, 1) := dk_146 (dk_at dksX0_append_1 11 rfl rfl)
theorem dX0_append_35 : decode cX0_append 35 = .ok (.invokevirtual 134, 3) := dk_182 0 134 (dk_at dksX0_append_1 12 rfl rfl)
theorem dX0_append_38 : decode cX0_append 38 = .ok (.pop, 1) := dk_87 (dk_at dksX0_append_1 15 rfl rfl)
theorem dX0_append_39 : decode cX0_append 39 = .ok (.aload_n 0, 1) := dk_42 (dk_at dksX0_append_1 16 rfl rfl)
theorem dX0_append_40 : decode cX0_append 40 = .ok (.getfield 32, 3) := dk_180 0 32 (dk_at dksX0_append_1 17 rfl rfl)
theorem dX0_append_43 : decode cX0_append 43 = .ok (.invokevirtual 231, 3) := dk_182 0 231 (dk_at dksX0_append_1 20 rfl rfl)
theorem dX0_append_46 : decode cX0_append 46 = .ok (.ireturn, 1) := dk_172 (dk_at dksX0_append_1 23 rfl rfl)
abbrev cX0_clear : ByteArray := prog_1_method_38_code
def yX0_clear : MethodName := ⟨RX0, "clear", "()I"⟩
def dkwX0_clear_0 : List UInt8 := [42, 180, 0, 32, 182, 0, 231, 60, 42, 180, 0, 32, 3, 182, 1, 32, 27, 172]
abbrev dktX0_clear_0 : List UInt8 := dkwX0_clear_0 ++ []
theorem dksX0_clear_0 : cX0_clear.data.toList.drop 0 = dktX0_clear_0 := by decide +kernel
theorem dX0_clear_0 : decode cX0_clear 0 = .ok (.aload_n 0, 1) := dk_42 (dk_at dksX0_clear_0 0 rfl rfl)
theorem dX0_clear_1 : decode cX0_clear 1 = .ok (.getfield 32, 3) := dk_180 0 32 (dk_at dksX0_clear_0 1 rfl rfl)
theorem dX0_clear_4 : decode cX0_clear 4 = .ok (.invokevirtual 231, 3) := dk_182 0 231 (dk_at dksX0_clear_0 4 rfl rfl)
theorem dX0_clear_7 : decode cX0_clear 7 = .ok (.istore_n 1, 1) := dk_60 (dk_at dksX0_clear_0 7 rfl rfl)
theorem dX0_clear_8 : decode cX0_clear 8 = .ok (.aload_n 0, 1) := dk_42 (dk_at dksX0_clear_0 8 rfl rfl)
theorem dX0_clear_9 : decode cX0_clear 9 = .ok (.getfield 32, 3) := dk_180 0 32 (dk_at dksX0_clear_0 9 rfl rfl)
theorem dX0_clear_12 : decode cX0_clear 12 = .ok (.iconst 0, 1) := dk_3 (dk_at dksX0_clear_0 12 rfl rfl)
theorem dX0_clear_13 : decode cX0_clear 13 = .ok (.invokevirtual 288, 3) := dk_182 1 32 (dk_at dksX0_clear_0 13 rfl rfl)
theorem dX0_clear_16 : decode cX0_clear 16 = .ok (.iload_n 1, 1) := dk_27 (dk_at dksX0_clear_0 16 rfl rfl)
theorem dX0_clear_17 : decode cX0_clear 17 = .ok (.ireturn, 1) := dk_172 (dk_at dksX0_clear_0 17 rfl rfl)
abbrev cX0_run : ByteArray := prog_1_method_40_code
def yX0_run : MethodName := ⟨RX0, "run", "()I"⟩
def dkwX0_run_5 : List UInt8 := [42, 180, 0, 32, 3, 182, 1, 32, 25, 6, 191]
abbrev dktX0_run_5 : List UInt8 := dkwX0_run_5 ++ []
def dkwX0_run_4 : List UInt8 := [182, 1, 32, 28, 172, 76, 42, 43, 182, 0, 191, 61, 42, 180, 0, 32, 3, 182, 1, 32, 28, 172, 58, 6]
abbrev dktX0_run_4 : List UInt8 := dkwX0_run_4 ++ dktX0_run_5
def dkwX0_run_3 : List UInt8 := [3, 182, 1, 32, 21, 5, 172, 76, 17, 252, 24, 43, 180, 1, 70, 100, 61, 42, 180, 0, 32, 3]
abbrev dktX0_run_3 : List UInt8 := dkwX0_run_3 ++ dktX0_run_4
def dkwX0_run_2 : List UInt8 := [42, 180, 0, 18, 58, 4, 42, 44, 181, 0, 18, 42, 25, 4, 29, 182, 0, 187, 54, 5, 42, 180, 0, 32]
abbrev dktX0_run_2 : List UInt8 := dkwX0_run_2 ++ dktX0_run_3
def dkwX0_run_1 : List UInt8 := [182, 1, 58, 154, 0, 21, 43, 182, 1, 63, 192, 1, 37, 44, 29, 184, 1, 64, 132, 3, 1, 167, 255, 234]
abbrev dktX0_run_1 : List UInt8 := dkwX0_run_1 ++ dktX0_run_2
def dkwX0_run_0 : List UInt8 := [187, 1, 49, 89, 42, 183, 1, 51, 182, 1, 54, 76, 42, 180, 0, 18, 182, 0, 174, 77, 3, 62, 43]
abbrev dktX0_run_0 : List UInt8 := dkwX0_run_0 ++ dktX0_run_1
theorem dksX0_run_0 : cX0_run.data.toList.drop 0 = dktX0_run_0 := by decide +kernel
theorem dksX0_run_1 : cX0_run.data.toList.drop 23 = dktX0_run_1 := dk_seg dksX0_run_0 23 rfl rfl
theorem dksX0_run_2 : cX0_run.data.toList.drop 47 = dktX0_run_2 := dk_seg dksX0_run_1 24 rfl rfl
theorem dksX0_run_3 : cX0_run.data.toList.drop 71 = dktX0_run_3 := dk_seg dksX0_run_2 24 rfl rfl
theorem dksX0_run_4 : cX0_run.data.toList.drop 93 = dktX0_run_4 := dk_seg dksX0_run_3 22 rfl rfl
theorem dksX0_run_5 : cX0_run.data.toList.drop 117 = dktX0_run_5 := dk_seg dksX0_run_4 24 rfl rfl
theorem dX0_run_0 : decode cX0_run 0 = .ok (.new 305, 3) := dk_187 1 49 (dk_at dksX0_run_0 0 rfl rfl)
theorem dX0_run_3 : decode cX0_run 3 = .ok (.dup, 1) := dk_89 (dk_at dksX0_run_0 3 rfl rfl)
theorem dX0_run_4 : decode cX0_run 4 = .ok (.aload_n 0, 1) := dk_42 (dk_at dksX0_run_0 4 rfl rfl)
theorem dX0_run_5 : decode cX0_run 5 = .ok (.invokespecial 307, 3) := dk_183 1 51 (dk_at dksX0_run_0 5 rfl rfl)
theorem dX0_run_8 : decode cX0_run 8 = .ok (.invokevirtual 310, 3) := dk_182 1 54 (dk_at dksX0_run_0 8 rfl rfl)
theorem dX0_run_11 : decode cX0_run 11 = .ok (.astore_n 1, 1) := dk_76 (dk_at dksX0_run_0 11 rfl rfl)
theorem dX0_run_12 : decode cX0_run 12 = .ok (.aload_n 0, 1) := dk_42 (dk_at dksX0_run_0 12 rfl rfl)
theorem dX0_run_13 : decode cX0_run 13 = .ok (.getfield 18, 3) := dk_180 0 18 (dk_at dksX0_run_0 13 rfl rfl)
theorem dX0_run_16 : decode cX0_run 16 = .ok (.invokevirtual 174, 3) := dk_182 0 174 (dk_at dksX0_run_0 16 rfl rfl)
theorem dX0_run_19 : decode cX0_run 19 = .ok (.astore_n 2, 1) := dk_77 (dk_at dksX0_run_0 19 rfl rfl)
theorem dX0_run_20 : decode cX0_run 20 = .ok (.iconst 0, 1) := dk_3 (dk_at dksX0_run_0 20 rfl rfl)
theorem dX0_run_21 : decode cX0_run 21 = .ok (.istore_n 3, 1) := dk_62 (dk_at dksX0_run_0 21 rfl rfl)
theorem dX0_run_22 : decode cX0_run 22 = .ok (.aload_n 1, 1) := dk_43 (dk_at dksX0_run_0 22 rfl rfl)
theorem dX0_run_23 : decode cX0_run 23 = .ok (.invokevirtual 314, 3) := dk_182 1 58 (dk_at dksX0_run_1 0 rfl rfl)
theorem dX0_run_26 : decode cX0_run 26 = .ok (.ifCond .ne 21, 3) := dk_154 0 21 (dk_at dksX0_run_1 3 rfl rfl)
theorem dX0_run_29 : decode cX0_run 29 = .ok (.aload_n 1, 1) := dk_43 (dk_at dksX0_run_1 6 rfl rfl)
theorem dX0_run_30 : decode cX0_run 30 = .ok (.invokevirtual 319, 3) := dk_182 1 63 (dk_at dksX0_run_1 7 rfl rfl)
theorem dX0_run_33 : decode cX0_run 33 = .ok (.checkcast 293, 3) := dk_192 1 37 (dk_at dksX0_run_1 10 rfl rfl)
theorem dX0_run_36 : decode cX0_run 36 = .ok (.aload_n 2, 1) := dk_44 (dk_at dksX0_run_1 13 rfl rfl)
theorem dX0_run_37 : decode cX0_run 37 = .ok (.iload_n 3, 1) := dk_29 (dk_at dksX0_run_1 14 rfl rfl)
theorem dX0_run_38 : decode cX0_run 38 = .ok (.invokestatic 320, 3) := dk_184 1 64 (dk_at dksX0_run_1 15 rfl rfl)
theorem dX0_run_41 : decode cX0_run 41 = .ok (.iinc 3 1, 3) := dk_132 3 1 (dk_at dksX0_run_1 18 rfl rfl)
theorem dX0_run_44 : decode cX0_run 44 = .ok (.goto (-22), 3) := dk_167 255 234 (dk_at dksX0_run_1 21 rfl rfl)
theorem dX0_run_47 : decode cX0_run 47 = .ok (.aload_n 0, 1) := dk_42 (dk_at dksX0_run_2 0 rfl rfl)
theorem dX0_run_48 : decode cX0_run 48 = .ok (.getfield 18, 3) := dk_180 0 18 (dk_at dksX0_run_2 1 rfl rfl)
theorem dX0_run_51 : decode cX0_run 51 = .ok (.astore 4, 2) := dk_58 4 (dk_at dksX0_run_2 4 rfl rfl)
theorem dX0_run_53 : decode cX0_run 53 = .ok (.aload_n 0, 1) := dk_42 (dk_at dksX0_run_2 6 rfl rfl)
theorem dX0_run_54 : decode cX0_run 54 = .ok (.aload_n 2, 1) := dk_44 (dk_at dksX0_run_2 7 rfl rfl)
theorem dX0_run_55 : decode cX0_run 55 = .ok (.putfield 18, 3) := dk_181 0 18 (dk_at dksX0_run_2 8 rfl rfl)
theorem dX0_run_58 : decode cX0_run 58 = .ok (.aload_n 0, 1) := dk_42 (dk_at dksX0_run_2 11 rfl rfl)
theorem dX0_run_59 : decode cX0_run 59 = .ok (.aload 4, 2) := dk_25 4 (dk_at dksX0_run_2 12 rfl rfl)
theorem dX0_run_61 : decode cX0_run 61 = .ok (.iload_n 3, 1) := dk_29 (dk_at dksX0_run_2 14 rfl rfl)
theorem dX0_run_62 : decode cX0_run 62 = .ok (.invokevirtual 187, 3) := dk_182 0 187 (dk_at dksX0_run_2 15 rfl rfl)
theorem dX0_run_65 : decode cX0_run 65 = .ok (.istore 5, 2) := dk_54 5 (dk_at dksX0_run_2 18 rfl rfl)
theorem dX0_run_67 : decode cX0_run 67 = .ok (.aload_n 0, 1) := dk_42 (dk_at dksX0_run_2 20 rfl rfl)
theorem dX0_run_68 : decode cX0_run 68 = .ok (.getfield 32, 3) := dk_180 0 32 (dk_at dksX0_run_2 21 rfl rfl)
theorem dX0_run_71 : decode cX0_run 71 = .ok (.iconst 0, 1) := dk_3 (dk_at dksX0_run_3 0 rfl rfl)
theorem dX0_run_72 : decode cX0_run 72 = .ok (.invokevirtual 288, 3) := dk_182 1 32 (dk_at dksX0_run_3 1 rfl rfl)
theorem dX0_run_75 : decode cX0_run 75 = .ok (.iload 5, 2) := dk_21 5 (dk_at dksX0_run_3 4 rfl rfl)
theorem dX0_run_77 : decode cX0_run 77 = .ok (.ireturn, 1) := dk_172 (dk_at dksX0_run_3 6 rfl rfl)
theorem dX0_run_78 : decode cX0_run 78 = .ok (.astore_n 1, 1) := dk_76 (dk_at dksX0_run_3 7 rfl rfl)
theorem dX0_run_79 : decode cX0_run 79 = .ok (.sipush (-1000), 3) := dk_17 252 24 (dk_at dksX0_run_3 8 rfl rfl)
theorem dX0_run_82 : decode cX0_run 82 = .ok (.aload_n 1, 1) := dk_43 (dk_at dksX0_run_3 11 rfl rfl)
theorem dX0_run_83 : decode cX0_run 83 = .ok (.getfield 326, 3) := dk_180 1 70 (dk_at dksX0_run_3 12 rfl rfl)
theorem dX0_run_86 : decode cX0_run 86 = .ok (.isub, 1) := dk_100 (dk_at dksX0_run_3 15 rfl rfl)
theorem dX0_run_87 : decode cX0_run 87 = .ok (.istore_n 2, 1) := dk_61 (dk_at dksX0_run_3 16 rfl rfl)
theorem dX0_run_88 : decode cX0_run 88 = .ok (.aload_n 0, 1) := dk_42 (dk_at dksX0_run_3 17 rfl rfl)
theorem dX0_run_89 : decode cX0_run 89 = .ok (.getfield 32, 3) := dk_180 0 32 (dk_at dksX0_run_3 18 rfl rfl)
theorem dX0_run_92 : decode cX0_run 92 = .ok (.iconst 0, 1) := dk_3 (dk_at dksX0_run_3 21 rfl rfl)
theorem dX0_run_93 : decode cX0_run 93 = .ok (.invokevirtual 288, 3) := dk_182 1 32 (dk_at dksX0_run_4 0 rfl rfl)
theorem dX0_run_96 : decode cX0_run 96 = .ok (.iload_n 2, 1) := dk_28 (dk_at dksX0_run_4 3 rfl rfl)
theorem dX0_run_97 : decode cX0_run 97 = .ok (.ireturn, 1) := dk_172 (dk_at dksX0_run_4 4 rfl rfl)
theorem dX0_run_98 : decode cX0_run 98 = .ok (.astore_n 1, 1) := dk_76 (dk_at dksX0_run_4 5 rfl rfl)
theorem dX0_run_99 : decode cX0_run 99 = .ok (.aload_n 0, 1) := dk_42 (dk_at dksX0_run_4 6 rfl rfl)
theorem dX0_run_100 : decode cX0_run 100 = .ok (.aload_n 1, 1) := dk_43 (dk_at dksX0_run_4 7 rfl rfl)
theorem dX0_run_101 : decode cX0_run 101 = .ok (.invokevirtual 191, 3) := dk_182 0 191 (dk_at dksX0_run_4 8 rfl rfl)
theorem dX0_run_104 : decode cX0_run 104 = .ok (.istore_n 2, 1) := dk_61 (dk_at dksX0_run_4 11 rfl rfl)
theorem dX0_run_105 : decode cX0_run 105 = .ok (.aload_n 0, 1) := dk_42 (dk_at dksX0_run_4 12 rfl rfl)
theorem dX0_run_106 : decode cX0_run 106 = .ok (.getfield 32, 3) := dk_180 0 32 (dk_at dksX0_run_4 13 rfl rfl)
theorem dX0_run_109 : decode cX0_run 109 = .ok (.iconst 0, 1) := dk_3 (dk_at dksX0_run_4 16 rfl rfl)
theorem dX0_run_110 : decode cX0_run 110 = .ok (.invokevirtual 288, 3) := dk_182 1 32 (dk_at dksX0_run_4 17 rfl rfl)
theorem dX0_run_113 : decode cX0_run 113 = .ok (.iload_n 2, 1) := dk_28 (dk_at dksX0_run_4 20 rfl rfl)
theorem dX0_run_114 : decode cX0_run 114 = .ok (.ireturn, 1) := dk_172 (dk_at dksX0_run_4 21 rfl rfl)
theorem dX0_run_115 : decode cX0_run 115 = .ok (.astore 6, 2) := dk_58 6 (dk_at dksX0_run_4 22 rfl rfl)
theorem dX0_run_117 : decode cX0_run 117 = .ok (.aload_n 0, 1) := dk_42 (dk_at dksX0_run_5 0 rfl rfl)
theorem dX0_run_118 : decode cX0_run 118 = .ok (.getfield 32, 3) := dk_180 0 32 (dk_at dksX0_run_5 1 rfl rfl)
theorem dX0_run_121 : decode cX0_run 121 = .ok (.iconst 0, 1) := dk_3 (dk_at dksX0_run_5 4 rfl rfl)
theorem dX0_run_122 : decode cX0_run 122 = .ok (.invokevirtual 288, 3) := dk_182 1 32 (dk_at dksX0_run_5 5 rfl rfl)
theorem dX0_run_125 : decode cX0_run 125 = .ok (.aload 6, 2) := dk_25 6 (dk_at dksX0_run_5 8 rfl rfl)
theorem dX0_run_127 : decode cX0_run 127 = .ok (.athrow, 1) := dk_191 (dk_at dksX0_run_5 10 rfl rfl)
abbrev cX0_carryOut : ByteArray := prog_1_method_39_code
def yX0_carryOut : MethodName := ⟨RX0, "carryOut", "(LChantRules$Command;LChantRules$Choir;I)V"⟩
def dkwX0_carryOut_1 : List UInt8 := [187, 0, 60, 89, 8, 28, 45, 180, 0, 65, 154, 0, 7, 1, 167, 0, 4, 45, 183, 1, 46, 191, 177]
abbrev dktX0_carryOut_1 : List UInt8 := dkwX0_carryOut_1 ++ []
def dkwX0_carryOut_0 : List UInt8 := [42, 43, 182, 1, 36, 154, 0, 7, 4, 167, 0, 4, 3, 3, 3, 184, 1, 42, 167, 0, 26, 78]
abbrev dktX0_carryOut_0 : List UInt8 := dkwX0_carryOut_0 ++ dktX0_carryOut_1
theorem dksX0_carryOut_0 : cX0_carryOut.data.toList.drop 0 = dktX0_carryOut_0 := by decide +kernel
theorem dksX0_carryOut_1 : cX0_carryOut.data.toList.drop 22 = dktX0_carryOut_1 := dk_seg dksX0_carryOut_0 22 rfl rfl
theorem dX0_carryOut_0 : decode cX0_carryOut 0 = .ok (.aload_n 0, 1) := dk_42 (dk_at dksX0_carryOut_0 0 rfl rfl)
theorem dX0_carryOut_1 : decode cX0_carryOut 1 = .ok (.aload_n 1, 1) := dk_43 (dk_at dksX0_carryOut_0 1 rfl rfl)
theorem dX0_carryOut_2 : decode cX0_carryOut 2 = .ok (.invokevirtual 292, 3) := dk_182 1 36 (dk_at dksX0_carryOut_0 2 rfl rfl)
theorem dX0_carryOut_5 : decode cX0_carryOut 5 = .ok (.ifCond .ne 7, 3) := dk_154 0 7 (dk_at dksX0_carryOut_0 5 rfl rfl)
theorem dX0_carryOut_8 : decode cX0_carryOut 8 = .ok (.iconst 1, 1) := dk_4 (dk_at dksX0_carryOut_0 8 rfl rfl)
theorem dX0_carryOut_9 : decode cX0_carryOut 9 = .ok (.goto 4, 3) := dk_167 0 4 (dk_at dksX0_carryOut_0 9 rfl rfl)
theorem dX0_carryOut_12 : decode cX0_carryOut 12 = .ok (.iconst 0, 1) := dk_3 (dk_at dksX0_carryOut_0 12 rfl rfl)
theorem dX0_carryOut_13 : decode cX0_carryOut 13 = .ok (.iconst 0, 1) := dk_3 (dk_at dksX0_carryOut_0 13 rfl rfl)
theorem dX0_carryOut_14 : decode cX0_carryOut 14 = .ok (.iconst 0, 1) := dk_3 (dk_at dksX0_carryOut_0 14 rfl rfl)
theorem dX0_carryOut_15 : decode cX0_carryOut 15 = .ok (.invokestatic 298, 3) := dk_184 1 42 (dk_at dksX0_carryOut_0 15 rfl rfl)
theorem dX0_carryOut_18 : decode cX0_carryOut 18 = .ok (.goto 26, 3) := dk_167 0 26 (dk_at dksX0_carryOut_0 18 rfl rfl)
theorem dX0_carryOut_21 : decode cX0_carryOut 21 = .ok (.astore_n 3, 1) := dk_78 (dk_at dksX0_carryOut_0 21 rfl rfl)
theorem dX0_carryOut_22 : decode cX0_carryOut 22 = .ok (.new 60, 3) := dk_187 0 60 (dk_at dksX0_carryOut_1 0 rfl rfl)
theorem dX0_carryOut_25 : decode cX0_carryOut 25 = .ok (.dup, 1) := dk_89 (dk_at dksX0_carryOut_1 3 rfl rfl)
theorem dX0_carryOut_26 : decode cX0_carryOut 26 = .ok (.iconst 5, 1) := dk_8 (dk_at dksX0_carryOut_1 4 rfl rfl)
theorem dX0_carryOut_27 : decode cX0_carryOut 27 = .ok (.iload_n 2, 1) := dk_28 (dk_at dksX0_carryOut_1 5 rfl rfl)
theorem dX0_carryOut_28 : decode cX0_carryOut 28 = .ok (.aload_n 3, 1) := dk_45 (dk_at dksX0_carryOut_1 6 rfl rfl)
theorem dX0_carryOut_29 : decode cX0_carryOut 29 = .ok (.getfield 65, 3) := dk_180 0 65 (dk_at dksX0_carryOut_1 7 rfl rfl)
theorem dX0_carryOut_32 : decode cX0_carryOut 32 = .ok (.ifCond .ne 7, 3) := dk_154 0 7 (dk_at dksX0_carryOut_1 10 rfl rfl)
theorem dX0_carryOut_35 : decode cX0_carryOut 35 = .ok (.aconst_null, 1) := dk_1 (dk_at dksX0_carryOut_1 13 rfl rfl)
theorem dX0_carryOut_36 : decode cX0_carryOut 36 = .ok (.goto 4, 3) := dk_167 0 4 (dk_at dksX0_carryOut_1 14 rfl rfl)
theorem dX0_carryOut_39 : decode cX0_carryOut 39 = .ok (.aload_n 3, 1) := dk_45 (dk_at dksX0_carryOut_1 17 rfl rfl)
theorem dX0_carryOut_40 : decode cX0_carryOut 40 = .ok (.invokespecial 302, 3) := dk_183 1 46 (dk_at dksX0_carryOut_1 18 rfl rfl)
theorem dX0_carryOut_43 : decode cX0_carryOut 43 = .ok (.athrow, 1) := dk_191 (dk_at dksX0_carryOut_1 21 rfl rfl)
theorem dX0_carryOut_44 : decode cX0_carryOut 44 = .ok (.return_, 1) := dk_177 (dk_at dksX0_carryOut_1 22 rfl rfl)
abbrev cX0_tell : ByteArray := prog_1_method_41_code
def yX0_tell : MethodName := ⟨RX0, "tell", "(II)I"⟩
def dkwX0_tell_2 : List UInt8 := [172]
abbrev dktX0_tell_2 : List UInt8 := dkwX0_tell_2 ++ []
def dkwX0_tell_1 : List UInt8 := [50, 180, 1, 73, 28, 182, 1, 77, 192, 0, 111, 184, 1, 83, 181, 0, 38, 42, 180, 0, 38, 182, 0, 246]
abbrev dktX0_tell_1 : List UInt8 := dkwX0_tell_1 ++ dktX0_tell_2
def dkwX0_tell_0 : List UInt8 := [42, 180, 0, 18, 27, 28, 182, 0, 212, 154, 0, 6, 16, 245, 172, 42, 42, 180, 0, 18, 180, 0, 178, 27]
abbrev dktX0_tell_0 : List UInt8 := dkwX0_tell_0 ++ dktX0_tell_1
theorem dksX0_tell_0 : cX0_tell.data.toList.drop 0 = dktX0_tell_0 := by decide +kernel
theorem dksX0_tell_1 : cX0_tell.data.toList.drop 24 = dktX0_tell_1 := dk_seg dksX0_tell_0 24 rfl rfl
theorem dksX0_tell_2 : cX0_tell.data.toList.drop 48 = dktX0_tell_2 := dk_seg dksX0_tell_1 24 rfl rfl
theorem dX0_tell_0 : decode cX0_tell 0 = .ok (.aload_n 0, 1) := dk_42 (dk_at dksX0_tell_0 0 rfl rfl)
theorem dX0_tell_1 : decode cX0_tell 1 = .ok (.getfield 18, 3) := dk_180 0 18 (dk_at dksX0_tell_0 1 rfl rfl)
theorem dX0_tell_4 : decode cX0_tell 4 = .ok (.iload_n 1, 1) := dk_27 (dk_at dksX0_tell_0 4 rfl rfl)
theorem dX0_tell_5 : decode cX0_tell 5 = .ok (.iload_n 2, 1) := dk_28 (dk_at dksX0_tell_0 5 rfl rfl)
theorem dX0_tell_6 : decode cX0_tell 6 = .ok (.invokevirtual 212, 3) := dk_182 0 212 (dk_at dksX0_tell_0 6 rfl rfl)
theorem dX0_tell_9 : decode cX0_tell 9 = .ok (.ifCond .ne 6, 3) := dk_154 0 6 (dk_at dksX0_tell_0 9 rfl rfl)
theorem dX0_tell_12 : decode cX0_tell 12 = .ok (.bipush (-11), 2) := dk_16 245 (dk_at dksX0_tell_0 12 rfl rfl)
theorem dX0_tell_14 : decode cX0_tell 14 = .ok (.ireturn, 1) := dk_172 (dk_at dksX0_tell_0 14 rfl rfl)
theorem dX0_tell_15 : decode cX0_tell 15 = .ok (.aload_n 0, 1) := dk_42 (dk_at dksX0_tell_0 15 rfl rfl)
theorem dX0_tell_16 : decode cX0_tell 16 = .ok (.aload_n 0, 1) := dk_42 (dk_at dksX0_tell_0 16 rfl rfl)
theorem dX0_tell_17 : decode cX0_tell 17 = .ok (.getfield 18, 3) := dk_180 0 18 (dk_at dksX0_tell_0 17 rfl rfl)
theorem dX0_tell_20 : decode cX0_tell 20 = .ok (.getfield 178, 3) := dk_180 0 178 (dk_at dksX0_tell_0 20 rfl rfl)
theorem dX0_tell_23 : decode cX0_tell 23 = .ok (.iload_n 1, 1) := dk_27 (dk_at dksX0_tell_0 23 rfl rfl)
theorem dX0_tell_24 : decode cX0_tell 24 = .ok (.aaload, 1) := dk_50 (dk_at dksX0_tell_1 0 rfl rfl)
theorem dX0_tell_25 : decode cX0_tell 25 = .ok (.getfield 329, 3) := dk_180 1 73 (dk_at dksX0_tell_1 1 rfl rfl)
theorem dX0_tell_28 : decode cX0_tell 28 = .ok (.iload_n 2, 1) := dk_28 (dk_at dksX0_tell_1 4 rfl rfl)
theorem dX0_tell_29 : decode cX0_tell 29 = .ok (.invokevirtual 333, 3) := dk_182 1 77 (dk_at dksX0_tell_1 5 rfl rfl)
theorem dX0_tell_32 : decode cX0_tell 32 = .ok (.checkcast 111, 3) := dk_192 0 111 (dk_at dksX0_tell_1 8 rfl rfl)
theorem dX0_tell_35 : decode cX0_tell 35 = .ok (.invokestatic 339, 3) := dk_184 1 83 (dk_at dksX0_tell_1 11 rfl rfl)
theorem dX0_tell_38 : decode cX0_tell 38 = .ok (.putfield 38, 3) := dk_181 0 38 (dk_at dksX0_tell_1 14 rfl rfl)
theorem dX0_tell_41 : decode cX0_tell 41 = .ok (.aload_n 0, 1) := dk_42 (dk_at dksX0_tell_1 17 rfl rfl)
theorem dX0_tell_42 : decode cX0_tell 42 = .ok (.getfield 38, 3) := dk_180 0 38 (dk_at dksX0_tell_1 18 rfl rfl)
theorem dX0_tell_45 : decode cX0_tell 45 = .ok (.invokevirtual 246, 3) := dk_182 0 246 (dk_at dksX0_tell_1 21 rfl rfl)
theorem dX0_tell_48 : decode cX0_tell 48 = .ok (.ireturn, 1) := dk_172 (dk_at dksX0_tell_2 0 rfl rfl)
abbrev cX0_textOf_2 : ByteArray := prog_1_method_13_code
def yX0_textOf_2 : MethodName := ⟨RX0, "textOf", "(LChantRules$Arc;)Ljava/lang/String;"⟩
def dkwX0_textOf_2_3 : List UInt8 := [182, 0, 134, 16, 61, 182, 0, 134, 42, 185, 0, 127, 1, 0, 182, 0, 130, 182, 0, 145, 176]
abbrev dktX0_textOf_2_3 : List UInt8 := dkwX0_textOf_2_3 ++ []
def dkwX0_textOf_2_2 : List UInt8 := [182, 0, 141, 182, 0, 134, 16, 47, 182, 0, 134, 42, 185, 0, 120, 1, 0, 184, 0, 137, 182, 0, 141]
abbrev dktX0_textOf_2_2 : List UInt8 := dkwX0_textOf_2_2 ++ dktX0_textOf_2_3
def dkwX0_textOf_2_1 : List UInt8 := [185, 0, 115, 1, 0, 182, 0, 130, 16, 32, 182, 0, 134, 87, 43, 42, 185, 0, 118, 1, 0, 184, 0, 137]
abbrev dktX0_textOf_2_1 : List UInt8 := dkwX0_textOf_2_1 ++ dktX0_textOf_2_2
def dkwX0_textOf_2_0 : List UInt8 := [187, 0, 29, 89, 183, 0, 31, 76, 43, 42, 185, 0, 110, 1, 0, 182, 0, 130, 16, 62, 182, 0, 134, 42]
abbrev dktX0_textOf_2_0 : List UInt8 := dkwX0_textOf_2_0 ++ dktX0_textOf_2_1
theorem dksX0_textOf_2_0 : cX0_textOf_2.data.toList.drop 0 = dktX0_textOf_2_0 := by decide +kernel
theorem dksX0_textOf_2_1 : cX0_textOf_2.data.toList.drop 24 = dktX0_textOf_2_1 := dk_seg dksX0_textOf_2_0 24 rfl rfl
theorem dksX0_textOf_2_2 : cX0_textOf_2.data.toList.drop 48 = dktX0_textOf_2_2 := dk_seg dksX0_textOf_2_1 24 rfl rfl
theorem dksX0_textOf_2_3 : cX0_textOf_2.data.toList.drop 71 = dktX0_textOf_2_3 := dk_seg dksX0_textOf_2_2 23 rfl rfl
theorem dX0_textOf_2_0 : decode cX0_textOf_2 0 = .ok (.new 29, 3) := dk_187 0 29 (dk_at dksX0_textOf_2_0 0 rfl rfl)
theorem dX0_textOf_2_3 : decode cX0_textOf_2 3 = .ok (.dup, 1) := dk_89 (dk_at dksX0_textOf_2_0 3 rfl rfl)
theorem dX0_textOf_2_4 : decode cX0_textOf_2 4 = .ok (.invokespecial 31, 3) := dk_183 0 31 (dk_at dksX0_textOf_2_0 4 rfl rfl)
theorem dX0_textOf_2_7 : decode cX0_textOf_2 7 = .ok (.astore_n 1, 1) := dk_76 (dk_at dksX0_textOf_2_0 7 rfl rfl)
theorem dX0_textOf_2_8 : decode cX0_textOf_2 8 = .ok (.aload_n 1, 1) := dk_43 (dk_at dksX0_textOf_2_0 8 rfl rfl)
theorem dX0_textOf_2_9 : decode cX0_textOf_2 9 = .ok (.aload_n 0, 1) := dk_42 (dk_at dksX0_textOf_2_0 9 rfl rfl)
theorem dX0_textOf_2_10 : decode cX0_textOf_2 10 = .ok (.invokeinterface 110 1, 5) := by decide +kernel
theorem dX0_textOf_2_15 : decode cX0_textOf_2 15 = .ok (.invokevirtual 130, 3) := dk_182 0 130 (dk_at dksX0_textOf_2_0 15 rfl rfl)
theorem dX0_textOf_2_18 : decode cX0_textOf_2 18 = .ok (.bipush 62, 2) := dk_16 62 (dk_at dksX0_textOf_2_0 18 rfl rfl)
theorem dX0_textOf_2_20 : decode cX0_textOf_2 20 = .ok (.invokevirtual 134, 3) := dk_182 0 134 (dk_at dksX0_textOf_2_0 20 rfl rfl)
theorem dX0_textOf_2_23 : decode cX0_textOf_2 23 = .ok (.aload_n 0, 1) := dk_42 (dk_at dksX0_textOf_2_0 23 rfl rfl)
theorem dX0_textOf_2_24 : decode cX0_textOf_2 24 = .ok (.invokeinterface 115 1, 5) := by decide +kernel
theorem dX0_textOf_2_29 : decode cX0_textOf_2 29 = .ok (.invokevirtual 130, 3) := dk_182 0 130 (dk_at dksX0_textOf_2_1 5 rfl rfl)
theorem dX0_textOf_2_32 : decode cX0_textOf_2 32 = .ok (.bipush 32, 2) := dk_16 32 (dk_at dksX0_textOf_2_1 8 rfl rfl)
theorem dX0_textOf_2_34 : decode cX0_textOf_2 34 = .ok (.invokevirtual 134, 3) := dk_182 0 134 (dk_at dksX0_textOf_2_1 10 rfl rfl)
theorem dX0_textOf_2_37 : decode cX0_textOf_2 37 = .ok (.pop, 1) := dk_87 (dk_at dksX0_textOf_2_1 13 rfl rfl)
theorem dX0_textOf_2_38 : decode cX0_textOf_2 38 = .ok (.aload_n 1, 1) := dk_43 (dk_at dksX0_textOf_2_1 14 rfl rfl)
theorem dX0_textOf_2_39 : decode cX0_textOf_2 39 = .ok (.aload_n 0, 1) := dk_42 (dk_at dksX0_textOf_2_1 15 rfl rfl)
theorem dX0_textOf_2_40 : decode cX0_textOf_2 40 = .ok (.invokeinterface 118 1, 5) := by decide +kernel
theorem dX0_textOf_2_45 : decode cX0_textOf_2 45 = .ok (.invokestatic 137, 3) := dk_184 0 137 (dk_at dksX0_textOf_2_1 21 rfl rfl)
theorem dX0_textOf_2_48 : decode cX0_textOf_2 48 = .ok (.invokevirtual 141, 3) := dk_182 0 141 (dk_at dksX0_textOf_2_2 0 rfl rfl)
theorem dX0_textOf_2_51 : decode cX0_textOf_2 51 = .ok (.invokevirtual 134, 3) := dk_182 0 134 (dk_at dksX0_textOf_2_2 3 rfl rfl)
theorem dX0_textOf_2_54 : decode cX0_textOf_2 54 = .ok (.bipush 47, 2) := dk_16 47 (dk_at dksX0_textOf_2_2 6 rfl rfl)
theorem dX0_textOf_2_56 : decode cX0_textOf_2 56 = .ok (.invokevirtual 134, 3) := dk_182 0 134 (dk_at dksX0_textOf_2_2 8 rfl rfl)
theorem dX0_textOf_2_59 : decode cX0_textOf_2 59 = .ok (.aload_n 0, 1) := dk_42 (dk_at dksX0_textOf_2_2 11 rfl rfl)
theorem dX0_textOf_2_60 : decode cX0_textOf_2 60 = .ok (.invokeinterface 120 1, 5) := by decide +kernel
theorem dX0_textOf_2_65 : decode cX0_textOf_2 65 = .ok (.invokestatic 137, 3) := dk_184 0 137 (dk_at dksX0_textOf_2_2 17 rfl rfl)
theorem dX0_textOf_2_68 : decode cX0_textOf_2 68 = .ok (.invokevirtual 141, 3) := dk_182 0 141 (dk_at dksX0_textOf_2_2 20 rfl rfl)
theorem dX0_textOf_2_71 : decode cX0_textOf_2 71 = .ok (.invokevirtual 134, 3) := dk_182 0 134 (dk_at dksX0_textOf_2_3 0 rfl rfl)
theorem dX0_textOf_2_74 : decode cX0_textOf_2 74 = .ok (.bipush 61, 2) := dk_16 61 (dk_at dksX0_textOf_2_3 3 rfl rfl)
theorem dX0_textOf_2_76 : decode cX0_textOf_2 76 = .ok (.invokevirtual 134, 3) := dk_182 0 134 (dk_at dksX0_textOf_2_3 5 rfl rfl)
theorem dX0_textOf_2_79 : decode cX0_textOf_2 79 = .ok (.aload_n 0, 1) := dk_42 (dk_at dksX0_textOf_2_3 8 rfl rfl)
theorem dX0_textOf_2_80 : decode cX0_textOf_2 80 = .ok (.invokeinterface 127 1, 5) := by decide +kernel
theorem dX0_textOf_2_85 : decode cX0_textOf_2 85 = .ok (.invokevirtual 130, 3) := dk_182 0 130 (dk_at dksX0_textOf_2_3 14 rfl rfl)
theorem dX0_textOf_2_88 : decode cX0_textOf_2 88 = .ok (.invokevirtual 145, 3) := dk_182 0 145 (dk_at dksX0_textOf_2_3 17 rfl rfl)
theorem dX0_textOf_2_91 : decode cX0_textOf_2 91 = .ok (.areturn, 1) := dk_176 (dk_at dksX0_textOf_2_3 20 rfl rfl)
abbrev cX0_tellStates : ByteArray := prog_1_method_42_code
def yX0_tellStates : MethodName := ⟨RX0, "tellStates", "(I)I"⟩
def dkwX0_tellStates_1 : List UInt8 := [181, 0, 38, 42, 180, 0, 38, 182, 0, 246, 172]
abbrev dktX0_tellStates_1 : List UInt8 := dkwX0_tellStates_1 ++ []
def dkwX0_tellStates_0 : List UInt8 := [27, 184, 0, 170, 154, 0, 6, 16, 245, 172, 42, 42, 180, 0, 18, 180, 0, 178, 27, 50, 182, 1, 86]
abbrev dktX0_tellStates_0 : List UInt8 := dkwX0_tellStates_0 ++ dktX0_tellStates_1
theorem dksX0_tellStates_0 : cX0_tellStates.data.toList.drop 0 = dktX0_tellStates_0 := by decide +kernel
theorem dksX0_tellStates_1 : cX0_tellStates.data.toList.drop 23 = dktX0_tellStates_1 := dk_seg dksX0_tellStates_0 23 rfl rfl
theorem dX0_tellStates_0 : decode cX0_tellStates 0 = .ok (.iload_n 1, 1) := dk_27 (dk_at dksX0_tellStates_0 0 rfl rfl)
theorem dX0_tellStates_1 : decode cX0_tellStates 1 = .ok (.invokestatic 170, 3) := dk_184 0 170 (dk_at dksX0_tellStates_0 1 rfl rfl)
theorem dX0_tellStates_4 : decode cX0_tellStates 4 = .ok (.ifCond .ne 6, 3) := dk_154 0 6 (dk_at dksX0_tellStates_0 4 rfl rfl)
theorem dX0_tellStates_7 : decode cX0_tellStates 7 = .ok (.bipush (-11), 2) := dk_16 245 (dk_at dksX0_tellStates_0 7 rfl rfl)
theorem dX0_tellStates_9 : decode cX0_tellStates 9 = .ok (.ireturn, 1) := dk_172 (dk_at dksX0_tellStates_0 9 rfl rfl)
theorem dX0_tellStates_10 : decode cX0_tellStates 10 = .ok (.aload_n 0, 1) := dk_42 (dk_at dksX0_tellStates_0 10 rfl rfl)
theorem dX0_tellStates_11 : decode cX0_tellStates 11 = .ok (.aload_n 0, 1) := dk_42 (dk_at dksX0_tellStates_0 11 rfl rfl)
theorem dX0_tellStates_12 : decode cX0_tellStates 12 = .ok (.getfield 18, 3) := dk_180 0 18 (dk_at dksX0_tellStates_0 12 rfl rfl)
theorem dX0_tellStates_15 : decode cX0_tellStates 15 = .ok (.getfield 178, 3) := dk_180 0 178 (dk_at dksX0_tellStates_0 15 rfl rfl)
theorem dX0_tellStates_18 : decode cX0_tellStates 18 = .ok (.iload_n 1, 1) := dk_27 (dk_at dksX0_tellStates_0 18 rfl rfl)
theorem dX0_tellStates_19 : decode cX0_tellStates 19 = .ok (.aaload, 1) := dk_50 (dk_at dksX0_tellStates_0 19 rfl rfl)
theorem dX0_tellStates_20 : decode cX0_tellStates 20 = .ok (.invokevirtual 342, 3) := dk_182 1 86 (dk_at dksX0_tellStates_0 20 rfl rfl)
theorem dX0_tellStates_23 : decode cX0_tellStates 23 = .ok (.putfield 38, 3) := dk_181 0 38 (dk_at dksX0_tellStates_1 0 rfl rfl)
theorem dX0_tellStates_26 : decode cX0_tellStates 26 = .ok (.aload_n 0, 1) := dk_42 (dk_at dksX0_tellStates_1 3 rfl rfl)
theorem dX0_tellStates_27 : decode cX0_tellStates 27 = .ok (.getfield 38, 3) := dk_180 0 38 (dk_at dksX0_tellStates_1 4 rfl rfl)
theorem dX0_tellStates_30 : decode cX0_tellStates 30 = .ok (.invokevirtual 246, 3) := dk_182 0 246 (dk_at dksX0_tellStates_1 7 rfl rfl)
theorem dX0_tellStates_33 : decode cX0_tellStates 33 = .ok (.ireturn, 1) := dk_172 (dk_at dksX0_tellStates_1 10 rfl rfl)
abbrev cX0_character : ByteArray := prog_1_method_43_code
def yX0_character : MethodName := ⟨RX0, "character", "(I)I"⟩
def dkwX0_character_1 : List UInt8 := [182, 1, 88, 167, 0, 5, 16, 245, 172]
abbrev dktX0_character_1 : List UInt8 := dkwX0_character_1 ++ []
def dkwX0_character_0 : List UInt8 := [27, 3, 42, 180, 0, 38, 182, 0, 246, 4, 100, 184, 0, 56, 153, 0, 14, 42, 180, 0, 38, 27]
abbrev dktX0_character_0 : List UInt8 := dkwX0_character_0 ++ dktX0_character_1
theorem dksX0_character_0 : cX0_character.data.toList.drop 0 = dktX0_character_0 := by decide +kernel
theorem dksX0_character_1 : cX0_character.data.toList.drop 22 = dktX0_character_1 := dk_seg dksX0_character_0 22 rfl rfl
theorem dX0_character_0 : decode cX0_character 0 = .ok (.iload_n 1, 1) := dk_27 (dk_at dksX0_character_0 0 rfl rfl)
theorem dX0_character_1 : decode cX0_character 1 = .ok (.iconst 0, 1) := dk_3 (dk_at dksX0_character_0 1 rfl rfl)
theorem dX0_character_2 : decode cX0_character 2 = .ok (.aload_n 0, 1) := dk_42 (dk_at dksX0_character_0 2 rfl rfl)
theorem dX0_character_3 : decode cX0_character 3 = .ok (.getfield 38, 3) := dk_180 0 38 (dk_at dksX0_character_0 3 rfl rfl)
theorem dX0_character_6 : decode cX0_character 6 = .ok (.invokevirtual 246, 3) := dk_182 0 246 (dk_at dksX0_character_0 6 rfl rfl)
theorem dX0_character_9 : decode cX0_character 9 = .ok (.iconst 1, 1) := dk_4 (dk_at dksX0_character_0 9 rfl rfl)
theorem dX0_character_10 : decode cX0_character 10 = .ok (.isub, 1) := dk_100 (dk_at dksX0_character_0 10 rfl rfl)
theorem dX0_character_11 : decode cX0_character 11 = .ok (.invokestatic 56, 3) := dk_184 0 56 (dk_at dksX0_character_0 11 rfl rfl)
theorem dX0_character_14 : decode cX0_character 14 = .ok (.ifCond .eq 14, 3) := dk_153 0 14 (dk_at dksX0_character_0 14 rfl rfl)
theorem dX0_character_17 : decode cX0_character 17 = .ok (.aload_n 0, 1) := dk_42 (dk_at dksX0_character_0 17 rfl rfl)
theorem dX0_character_18 : decode cX0_character 18 = .ok (.getfield 38, 3) := dk_180 0 38 (dk_at dksX0_character_0 18 rfl rfl)
theorem dX0_character_21 : decode cX0_character 21 = .ok (.iload_n 1, 1) := dk_27 (dk_at dksX0_character_0 21 rfl rfl)
theorem dX0_character_22 : decode cX0_character 22 = .ok (.invokevirtual 344, 3) := dk_182 1 88 (dk_at dksX0_character_1 0 rfl rfl)
theorem dX0_character_25 : decode cX0_character 25 = .ok (.goto 5, 3) := dk_167 0 5 (dk_at dksX0_character_1 3 rfl rfl)
theorem dX0_character_28 : decode cX0_character 28 = .ok (.bipush (-11), 2) := dk_16 245 (dk_at dksX0_character_1 6 rfl rfl)
theorem dX0_character_30 : decode cX0_character 30 = .ok (.ireturn, 1) := dk_172 (dk_at dksX0_character_1 8 rfl rfl)
abbrev cX0_reason : ByteArray := prog_1_method_44_code
def yX0_reason : MethodName := ⟨RX0, "reason", "(ZZ)I"⟩
def dkwX0_reason_2 : List UInt8 := [153, 0, 10, 42, 180, 0, 73, 167, 0, 7, 42, 180, 0, 69, 172]
abbrev dktX0_reason_2 : List UInt8 := dkwX0_reason_2 ++ []
def dkwX0_reason_1 : List UInt8 := [27, 153, 0, 21, 28, 153, 0, 10, 42, 180, 0, 81, 167, 0, 25, 42, 180, 0, 74, 167, 0, 18, 28]
abbrev dktX0_reason_1 : List UInt8 := dkwX0_reason_1 ++ dktX0_reason_2
def dkwX0_reason_0 : List UInt8 := [27, 153, 0, 13, 42, 180, 0, 74, 154, 0, 16, 167, 0, 10, 42, 180, 0, 69, 154, 0, 6, 16, 241, 172]
abbrev dktX0_reason_0 : List UInt8 := dkwX0_reason_0 ++ dktX0_reason_1
theorem dksX0_reason_0 : cX0_reason.data.toList.drop 0 = dktX0_reason_0 := by decide +kernel
theorem dksX0_reason_1 : cX0_reason.data.toList.drop 24 = dktX0_reason_1 := dk_seg dksX0_reason_0 24 rfl rfl
theorem dksX0_reason_2 : cX0_reason.data.toList.drop 47 = dktX0_reason_2 := dk_seg dksX0_reason_1 23 rfl rfl
theorem dX0_reason_0 : decode cX0_reason 0 = .ok (.iload_n 1, 1) := dk_27 (dk_at dksX0_reason_0 0 rfl rfl)
theorem dX0_reason_1 : decode cX0_reason 1 = .ok (.ifCond .eq 13, 3) := dk_153 0 13 (dk_at dksX0_reason_0 1 rfl rfl)
theorem dX0_reason_4 : decode cX0_reason 4 = .ok (.aload_n 0, 1) := dk_42 (dk_at dksX0_reason_0 4 rfl rfl)
theorem dX0_reason_5 : decode cX0_reason 5 = .ok (.getfield 74, 3) := dk_180 0 74 (dk_at dksX0_reason_0 5 rfl rfl)
theorem dX0_reason_8 : decode cX0_reason 8 = .ok (.ifCond .ne 16, 3) := dk_154 0 16 (dk_at dksX0_reason_0 8 rfl rfl)
theorem dX0_reason_11 : decode cX0_reason 11 = .ok (.goto 10, 3) := dk_167 0 10 (dk_at dksX0_reason_0 11 rfl rfl)
theorem dX0_reason_14 : decode cX0_reason 14 = .ok (.aload_n 0, 1) := dk_42 (dk_at dksX0_reason_0 14 rfl rfl)
theorem dX0_reason_15 : decode cX0_reason 15 = .ok (.getfield 69, 3) := dk_180 0 69 (dk_at dksX0_reason_0 15 rfl rfl)
theorem dX0_reason_18 : decode cX0_reason 18 = .ok (.ifCond .ne 6, 3) := dk_154 0 6 (dk_at dksX0_reason_0 18 rfl rfl)
theorem dX0_reason_21 : decode cX0_reason 21 = .ok (.bipush (-15), 2) := dk_16 241 (dk_at dksX0_reason_0 21 rfl rfl)
theorem dX0_reason_23 : decode cX0_reason 23 = .ok (.ireturn, 1) := dk_172 (dk_at dksX0_reason_0 23 rfl rfl)
theorem dX0_reason_24 : decode cX0_reason 24 = .ok (.iload_n 1, 1) := dk_27 (dk_at dksX0_reason_1 0 rfl rfl)
theorem dX0_reason_25 : decode cX0_reason 25 = .ok (.ifCond .eq 21, 3) := dk_153 0 21 (dk_at dksX0_reason_1 1 rfl rfl)
theorem dX0_reason_28 : decode cX0_reason 28 = .ok (.iload_n 2, 1) := dk_28 (dk_at dksX0_reason_1 4 rfl rfl)
theorem dX0_reason_29 : decode cX0_reason 29 = .ok (.ifCond .eq 10, 3) := dk_153 0 10 (dk_at dksX0_reason_1 5 rfl rfl)
theorem dX0_reason_32 : decode cX0_reason 32 = .ok (.aload_n 0, 1) := dk_42 (dk_at dksX0_reason_1 8 rfl rfl)
theorem dX0_reason_33 : decode cX0_reason 33 = .ok (.getfield 81, 3) := dk_180 0 81 (dk_at dksX0_reason_1 9 rfl rfl)
theorem dX0_reason_36 : decode cX0_reason 36 = .ok (.goto 25, 3) := dk_167 0 25 (dk_at dksX0_reason_1 12 rfl rfl)
theorem dX0_reason_39 : decode cX0_reason 39 = .ok (.aload_n 0, 1) := dk_42 (dk_at dksX0_reason_1 15 rfl rfl)
theorem dX0_reason_40 : decode cX0_reason 40 = .ok (.getfield 74, 3) := dk_180 0 74 (dk_at dksX0_reason_1 16 rfl rfl)
theorem dX0_reason_43 : decode cX0_reason 43 = .ok (.goto 18, 3) := dk_167 0 18 (dk_at dksX0_reason_1 19 rfl rfl)
theorem dX0_reason_46 : decode cX0_reason 46 = .ok (.iload_n 2, 1) := dk_28 (dk_at dksX0_reason_1 22 rfl rfl)
theorem dX0_reason_47 : decode cX0_reason 47 = .ok (.ifCond .eq 10, 3) := dk_153 0 10 (dk_at dksX0_reason_2 0 rfl rfl)
theorem dX0_reason_50 : decode cX0_reason 50 = .ok (.aload_n 0, 1) := dk_42 (dk_at dksX0_reason_2 3 rfl rfl)
theorem dX0_reason_51 : decode cX0_reason 51 = .ok (.getfield 73, 3) := dk_180 0 73 (dk_at dksX0_reason_2 4 rfl rfl)
theorem dX0_reason_54 : decode cX0_reason 54 = .ok (.goto 7, 3) := dk_167 0 7 (dk_at dksX0_reason_2 7 rfl rfl)
theorem dX0_reason_57 : decode cX0_reason 57 = .ok (.aload_n 0, 1) := dk_42 (dk_at dksX0_reason_2 10 rfl rfl)
theorem dX0_reason_58 : decode cX0_reason 58 = .ok (.getfield 69, 3) := dk_180 0 69 (dk_at dksX0_reason_2 11 rfl rfl)
theorem dX0_reason_61 : decode cX0_reason 61 = .ok (.ireturn, 1) := dk_172 (dk_at dksX0_reason_2 14 rfl rfl)
abbrev cX0_account : ByteArray := prog_1_method_45_code
def yX0_account : MethodName := ⟨RX0, "account", "(I)I"⟩
def dkwX0_account_8 : List UInt8 := [167, 0, 15, 42, 180, 0, 25, 182, 0, 163, 167, 0, 5, 16, 244, 172]
abbrev dktX0_account_8 : List UInt8 := dkwX0_account_8 ++ []
def dkwX0_account_7 : List UInt8 := [180, 1, 106, 167, 0, 35, 42, 180, 0, 18, 180, 1, 109, 167, 0, 25, 42, 180, 0, 32, 182, 0, 231]
abbrev dktX0_account_7 : List UInt8 := dkwX0_account_7 ++ dktX0_account_8
def dkwX0_account_6 : List UInt8 := [50, 182, 1, 99, 96, 167, 0, 55, 42, 180, 0, 18, 180, 1, 103, 167, 0, 45, 42, 180, 0, 18]
abbrev dktX0_account_6 : List UInt8 := dkwX0_account_6 ++ dktX0_account_7
def dkwX0_account_5 : List UInt8 := [50, 42, 180, 0, 11, 7, 50, 182, 1, 99, 42, 180, 0, 18, 180, 0, 178, 4, 50, 42, 180, 0, 11, 7]
abbrev dktX0_account_5 : List UInt8 := dkwX0_account_5 ++ dktX0_account_6
def dkwX0_account_4 : List UInt8 := [182, 1, 93, 167, 0, 105, 42, 180, 0, 18, 182, 1, 96, 167, 0, 95, 42, 180, 0, 18, 180, 0, 178, 3]
abbrev dktX0_account_4 : List UInt8 := dkwX0_account_4 ++ dktX0_account_5
def dkwX0_account_3 : List UInt8 := [100, 50, 180, 1, 73, 182, 1, 92, 167, 0, 122, 42, 180, 0, 18, 180, 0, 178, 27, 7, 100, 50]
abbrev dktX0_account_3 : List UInt8 := dkwX0_account_3 ++ dktX0_account_4
def dkwX0_account_2 : List UInt8 := [42, 180, 0, 18, 180, 0, 178, 27, 50, 180, 1, 89, 167, 0, 142, 42, 180, 0, 18, 180, 0, 178, 27, 5]
abbrev dktX0_account_2 : List UInt8 := dkwX0_account_2 ++ dktX0_account_3
def dkwX0_account_1 : List UInt8 := [170, 0, 0, 0, 0, 0, 219, 0, 0, 0, 0, 0, 0, 0, 12, 0, 0, 0, 67, 0, 0, 0, 67, 0, 0, 0, 82, 0, 0, 0, 82, 0, 0, 0, 102, 0, 0, 0, 102, 0, 0, 0, 119, 0, 0, 0, 129, 0, 0, 0, 169, 0, 0, 0, 179, 0, 0, 0, 189, 0, 0, 0, 199, 0, 0, 0, 209]
abbrev dktX0_account_1 : List UInt8 := dkwX0_account_1 ++ dktX0_account_2
def dkwX0_account_0 : List UInt8 := [27]
abbrev dktX0_account_0 : List UInt8 := dkwX0_account_0 ++ dktX0_account_1
theorem dksX0_account_0 : cX0_account.data.toList.drop 0 = dktX0_account_0 := by decide +kernel
theorem dksX0_account_1 : cX0_account.data.toList.drop 1 = dktX0_account_1 := dk_seg dksX0_account_0 1 rfl rfl
theorem dksX0_account_2 : cX0_account.data.toList.drop 68 = dktX0_account_2 := dk_seg dksX0_account_1 67 rfl rfl
theorem dksX0_account_3 : cX0_account.data.toList.drop 92 = dktX0_account_3 := dk_seg dksX0_account_2 24 rfl rfl
theorem dksX0_account_4 : cX0_account.data.toList.drop 114 = dktX0_account_4 := dk_seg dksX0_account_3 22 rfl rfl
theorem dksX0_account_5 : cX0_account.data.toList.drop 138 = dktX0_account_5 := dk_seg dksX0_account_4 24 rfl rfl
theorem dksX0_account_6 : cX0_account.data.toList.drop 162 = dktX0_account_6 := dk_seg dksX0_account_5 24 rfl rfl
theorem dksX0_account_7 : cX0_account.data.toList.drop 184 = dktX0_account_7 := dk_seg dksX0_account_6 22 rfl rfl
theorem dksX0_account_8 : cX0_account.data.toList.drop 207 = dktX0_account_8 := dk_seg dksX0_account_7 23 rfl rfl
theorem dX0_account_0 : decode cX0_account 0 = .ok (.iload_n 1, 1) := dk_27 (dk_at dksX0_account_0 0 rfl rfl)
theorem dX0_account_1 : decode cX0_account 1 = .ok (.tableswitch 219 0 12 #[67, 67, 82, 82, 102, 102, 119, 129, 169, 179, 189, 199, 209], 67) := by decide +kernel
theorem dX0_account_68 : decode cX0_account 68 = .ok (.aload_n 0, 1) := dk_42 (dk_at dksX0_account_2 0 rfl rfl)
theorem dX0_account_69 : decode cX0_account 69 = .ok (.getfield 18, 3) := dk_180 0 18 (dk_at dksX0_account_2 1 rfl rfl)
theorem dX0_account_72 : decode cX0_account 72 = .ok (.getfield 178, 3) := dk_180 0 178 (dk_at dksX0_account_2 4 rfl rfl)
theorem dX0_account_75 : decode cX0_account 75 = .ok (.iload_n 1, 1) := dk_27 (dk_at dksX0_account_2 7 rfl rfl)
theorem dX0_account_76 : decode cX0_account 76 = .ok (.aaload, 1) := dk_50 (dk_at dksX0_account_2 8 rfl rfl)
theorem dX0_account_77 : decode cX0_account 77 = .ok (.getfield 345, 3) := dk_180 1 89 (dk_at dksX0_account_2 9 rfl rfl)
theorem dX0_account_80 : decode cX0_account 80 = .ok (.goto 142, 3) := dk_167 0 142 (dk_at dksX0_account_2 12 rfl rfl)
theorem dX0_account_83 : decode cX0_account 83 = .ok (.aload_n 0, 1) := dk_42 (dk_at dksX0_account_2 15 rfl rfl)
theorem dX0_account_84 : decode cX0_account 84 = .ok (.getfield 18, 3) := dk_180 0 18 (dk_at dksX0_account_2 16 rfl rfl)
theorem dX0_account_87 : decode cX0_account 87 = .ok (.getfield 178, 3) := dk_180 0 178 (dk_at dksX0_account_2 19 rfl rfl)
theorem dX0_account_90 : decode cX0_account 90 = .ok (.iload_n 1, 1) := dk_27 (dk_at dksX0_account_2 22 rfl rfl)
theorem dX0_account_91 : decode cX0_account 91 = .ok (.iconst 2, 1) := dk_5 (dk_at dksX0_account_2 23 rfl rfl)
theorem dX0_account_92 : decode cX0_account 92 = .ok (.isub, 1) := dk_100 (dk_at dksX0_account_3 0 rfl rfl)
theorem dX0_account_93 : decode cX0_account 93 = .ok (.aaload, 1) := dk_50 (dk_at dksX0_account_3 1 rfl rfl)
theorem dX0_account_94 : decode cX0_account 94 = .ok (.getfield 329, 3) := dk_180 1 73 (dk_at dksX0_account_3 2 rfl rfl)
theorem dX0_account_97 : decode cX0_account 97 = .ok (.invokevirtual 348, 3) := dk_182 1 92 (dk_at dksX0_account_3 5 rfl rfl)
theorem dX0_account_100 : decode cX0_account 100 = .ok (.goto 122, 3) := dk_167 0 122 (dk_at dksX0_account_3 8 rfl rfl)
theorem dX0_account_103 : decode cX0_account 103 = .ok (.aload_n 0, 1) := dk_42 (dk_at dksX0_account_3 11 rfl rfl)
theorem dX0_account_104 : decode cX0_account 104 = .ok (.getfield 18, 3) := dk_180 0 18 (dk_at dksX0_account_3 12 rfl rfl)
theorem dX0_account_107 : decode cX0_account 107 = .ok (.getfield 178, 3) := dk_180 0 178 (dk_at dksX0_account_3 15 rfl rfl)
theorem dX0_account_110 : decode cX0_account 110 = .ok (.iload_n 1, 1) := dk_27 (dk_at dksX0_account_3 18 rfl rfl)
theorem dX0_account_111 : decode cX0_account 111 = .ok (.iconst 4, 1) := dk_7 (dk_at dksX0_account_3 19 rfl rfl)
theorem dX0_account_112 : decode cX0_account 112 = .ok (.isub, 1) := dk_100 (dk_at dksX0_account_3 20 rfl rfl)
theorem dX0_account_113 : decode cX0_account 113 = .ok (.aaload, 1) := dk_50 (dk_at dksX0_account_3 21 rfl rfl)
theorem dX0_account_114 : decode cX0_account 114 = .ok (.invokevirtual 349, 3) := dk_182 1 93 (dk_at dksX0_account_4 0 rfl rfl)
theorem dX0_account_117 : decode cX0_account 117 = .ok (.goto 105, 3) := dk_167 0 105 (dk_at dksX0_account_4 3 rfl rfl)
theorem dX0_account_120 : decode cX0_account 120 = .ok (.aload_n 0, 1) := dk_42 (dk_at dksX0_account_4 6 rfl rfl)
theorem dX0_account_121 : decode cX0_account 121 = .ok (.getfield 18, 3) := dk_180 0 18 (dk_at dksX0_account_4 7 rfl rfl)
theorem dX0_account_124 : decode cX0_account 124 = .ok (.invokevirtual 352, 3) := dk_182 1 96 (dk_at dksX0_account_4 10 rfl rfl)
theorem dX0_account_127 : decode cX0_account 127 = .ok (.goto 95, 3) := dk_167 0 95 (dk_at dksX0_account_4 13 rfl rfl)
theorem dX0_account_130 : decode cX0_account 130 = .ok (.aload_n 0, 1) := dk_42 (dk_at dksX0_account_4 16 rfl rfl)
theorem dX0_account_131 : decode cX0_account 131 = .ok (.getfield 18, 3) := dk_180 0 18 (dk_at dksX0_account_4 17 rfl rfl)
theorem dX0_account_134 : decode cX0_account 134 = .ok (.getfield 178, 3) := dk_180 0 178 (dk_at dksX0_account_4 20 rfl rfl)
theorem dX0_account_137 : decode cX0_account 137 = .ok (.iconst 0, 1) := dk_3 (dk_at dksX0_account_4 23 rfl rfl)
theorem dX0_account_138 : decode cX0_account 138 = .ok (.aaload, 1) := dk_50 (dk_at dksX0_account_5 0 rfl rfl)
theorem dX0_account_139 : decode cX0_account 139 = .ok (.aload_n 0, 1) := dk_42 (dk_at dksX0_account_5 1 rfl rfl)
theorem dX0_account_140 : decode cX0_account 140 = .ok (.getfield 11, 3) := dk_180 0 11 (dk_at dksX0_account_5 2 rfl rfl)
theorem dX0_account_143 : decode cX0_account 143 = .ok (.iconst 4, 1) := dk_7 (dk_at dksX0_account_5 5 rfl rfl)
theorem dX0_account_144 : decode cX0_account 144 = .ok (.aaload, 1) := dk_50 (dk_at dksX0_account_5 6 rfl rfl)
theorem dX0_account_145 : decode cX0_account 145 = .ok (.invokevirtual 355, 3) := dk_182 1 99 (dk_at dksX0_account_5 7 rfl rfl)
theorem dX0_account_148 : decode cX0_account 148 = .ok (.aload_n 0, 1) := dk_42 (dk_at dksX0_account_5 10 rfl rfl)
theorem dX0_account_149 : decode cX0_account 149 = .ok (.getfield 18, 3) := dk_180 0 18 (dk_at dksX0_account_5 11 rfl rfl)
theorem dX0_account_152 : decode cX0_account 152 = .ok (.getfield 178, 3) := dk_180 0 178 (dk_at dksX0_account_5 14 rfl rfl)
theorem dX0_account_155 : decode cX0_account 155 = .ok (.iconst 1, 1) := dk_4 (dk_at dksX0_account_5 17 rfl rfl)
theorem dX0_account_156 : decode cX0_account 156 = .ok (.aaload, 1) := dk_50 (dk_at dksX0_account_5 18 rfl rfl)
theorem dX0_account_157 : decode cX0_account 157 = .ok (.aload_n 0, 1) := dk_42 (dk_at dksX0_account_5 19 rfl rfl)
theorem dX0_account_158 : decode cX0_account 158 = .ok (.getfield 11, 3) := dk_180 0 11 (dk_at dksX0_account_5 20 rfl rfl)
theorem dX0_account_161 : decode cX0_account 161 = .ok (.iconst 4, 1) := dk_7 (dk_at dksX0_account_5 23 rfl rfl)
theorem dX0_account_162 : decode cX0_account 162 = .ok (.aaload, 1) := dk_50 (dk_at dksX0_account_6 0 rfl rfl)
theorem dX0_account_163 : decode cX0_account 163 = .ok (.invokevirtual 355, 3) := dk_182 1 99 (dk_at dksX0_account_6 1 rfl rfl)
theorem dX0_account_166 : decode cX0_account 166 = .ok (.iadd, 1) := dk_96 (dk_at dksX0_account_6 4 rfl rfl)
theorem dX0_account_167 : decode cX0_account 167 = .ok (.goto 55, 3) := dk_167 0 55 (dk_at dksX0_account_6 5 rfl rfl)
theorem dX0_account_170 : decode cX0_account 170 = .ok (.aload_n 0, 1) := dk_42 (dk_at dksX0_account_6 8 rfl rfl)
theorem dX0_account_171 : decode cX0_account 171 = .ok (.getfield 18, 3) := dk_180 0 18 (dk_at dksX0_account_6 9 rfl rfl)
theorem dX0_account_174 : decode cX0_account 174 = .ok (.getfield 359, 3) := dk_180 1 103 (dk_at dksX0_account_6 12 rfl rfl)
theorem dX0_account_177 : decode cX0_account 177 = .ok (.goto 45, 3) := dk_167 0 45 (dk_at dksX0_account_6 15 rfl rfl)
theorem dX0_account_180 : decode cX0_account 180 = .ok (.aload_n 0, 1) := dk_42 (dk_at dksX0_account_6 18 rfl rfl)
theorem dX0_account_181 : decode cX0_account 181 = .ok (.getfield 18, 3) := dk_180 0 18 (dk_at dksX0_account_6 19 rfl rfl)
theorem dX0_account_184 : decode cX0_account 184 = .ok (.getfield 362, 3) := dk_180 1 106 (dk_at dksX0_account_7 0 rfl rfl)
theorem dX0_account_187 : decode cX0_account 187 = .ok (.goto 35, 3) := dk_167 0 35 (dk_at dksX0_account_7 3 rfl rfl)
theorem dX0_account_190 : decode cX0_account 190 = .ok (.aload_n 0, 1) := dk_42 (dk_at dksX0_account_7 6 rfl rfl)
theorem dX0_account_191 : decode cX0_account 191 = .ok (.getfield 18, 3) := dk_180 0 18 (dk_at dksX0_account_7 7 rfl rfl)
theorem dX0_account_194 : decode cX0_account 194 = .ok (.getfield 365, 3) := dk_180 1 109 (dk_at dksX0_account_7 10 rfl rfl)
theorem dX0_account_197 : decode cX0_account 197 = .ok (.goto 25, 3) := dk_167 0 25 (dk_at dksX0_account_7 13 rfl rfl)
theorem dX0_account_200 : decode cX0_account 200 = .ok (.aload_n 0, 1) := dk_42 (dk_at dksX0_account_7 16 rfl rfl)
theorem dX0_account_201 : decode cX0_account 201 = .ok (.getfield 32, 3) := dk_180 0 32 (dk_at dksX0_account_7 17 rfl rfl)
theorem dX0_account_204 : decode cX0_account 204 = .ok (.invokevirtual 231, 3) := dk_182 0 231 (dk_at dksX0_account_7 20 rfl rfl)
theorem dX0_account_207 : decode cX0_account 207 = .ok (.goto 15, 3) := dk_167 0 15 (dk_at dksX0_account_8 0 rfl rfl)
theorem dX0_account_210 : decode cX0_account 210 = .ok (.aload_n 0, 1) := dk_42 (dk_at dksX0_account_8 3 rfl rfl)
theorem dX0_account_211 : decode cX0_account 211 = .ok (.getfield 25, 3) := dk_180 0 25 (dk_at dksX0_account_8 4 rfl rfl)
theorem dX0_account_214 : decode cX0_account 214 = .ok (.invokevirtual 163, 3) := dk_182 0 163 (dk_at dksX0_account_8 7 rfl rfl)
theorem dX0_account_217 : decode cX0_account 217 = .ok (.goto 5, 3) := dk_167 0 5 (dk_at dksX0_account_8 10 rfl rfl)
theorem dX0_account_220 : decode cX0_account 220 = .ok (.bipush (-12), 2) := dk_16 244 (dk_at dksX0_account_8 13 rfl rfl)
theorem dX0_account_222 : decode cX0_account 222 = .ok (.ireturn, 1) := dk_172 (dk_at dksX0_account_8 15 rfl rfl)
abbrev cX0_isBalanced : ByteArray := prog_1_method_46_code
def yX0_isBalanced : MethodName := ⟨RX0, "isBalanced", "()I"⟩
def dkwX0_isBalanced_0 : List UInt8 := [42, 180, 0, 18, 42, 180, 0, 11, 182, 1, 111, 153, 0, 7, 4, 167, 0, 4, 3, 172]
abbrev dktX0_isBalanced_0 : List UInt8 := dkwX0_isBalanced_0 ++ []
theorem dksX0_isBalanced_0 : cX0_isBalanced.data.toList.drop 0 = dktX0_isBalanced_0 := by decide +kernel
theorem dX0_isBalanced_0 : decode cX0_isBalanced 0 = .ok (.aload_n 0, 1) := dk_42 (dk_at dksX0_isBalanced_0 0 rfl rfl)
theorem dX0_isBalanced_1 : decode cX0_isBalanced 1 = .ok (.getfield 18, 3) := dk_180 0 18 (dk_at dksX0_isBalanced_0 1 rfl rfl)
theorem dX0_isBalanced_4 : decode cX0_isBalanced 4 = .ok (.aload_n 0, 1) := dk_42 (dk_at dksX0_isBalanced_0 4 rfl rfl)
theorem dX0_isBalanced_5 : decode cX0_isBalanced 5 = .ok (.getfield 11, 3) := dk_180 0 11 (dk_at dksX0_isBalanced_0 5 rfl rfl)
theorem dX0_isBalanced_8 : decode cX0_isBalanced 8 = .ok (.invokevirtual 367, 3) := dk_182 1 111 (dk_at dksX0_isBalanced_0 8 rfl rfl)
theorem dX0_isBalanced_11 : decode cX0_isBalanced 11 = .ok (.ifCond .eq 7, 3) := dk_153 0 7 (dk_at dksX0_isBalanced_0 11 rfl rfl)
theorem dX0_isBalanced_14 : decode cX0_isBalanced 14 = .ok (.iconst 1, 1) := dk_4 (dk_at dksX0_isBalanced_0 14 rfl rfl)
theorem dX0_isBalanced_15 : decode cX0_isBalanced 15 = .ok (.goto 4, 3) := dk_167 0 4 (dk_at dksX0_isBalanced_0 15 rfl rfl)
theorem dX0_isBalanced_18 : decode cX0_isBalanced 18 = .ok (.iconst 0, 1) := dk_3 (dk_at dksX0_isBalanced_0 18 rfl rfl)
theorem dX0_isBalanced_19 : decode cX0_isBalanced 19 = .ok (.ireturn, 1) := dk_172 (dk_at dksX0_isBalanced_0 19 rfl rfl)
abbrev cX0_meanWeight : ByteArray := prog_1_method_47_code
def yX0_meanWeight : MethodName := ⟨RX0, "meanWeight", "()D"⟩
def dkwX0_meanWeight_1 : List UInt8 := [27, 135, 111, 175]
abbrev dktX0_meanWeight_1 : List UInt8 := dkwX0_meanWeight_1 ++ []
def dkwX0_meanWeight_0 : List UInt8 := [42, 180, 0, 18, 182, 1, 115, 60, 27, 154, 0, 7, 14, 167, 0, 14, 42, 180, 0, 18, 182, 1, 96, 135]
abbrev dktX0_meanWeight_0 : List UInt8 := dkwX0_meanWeight_0 ++ dktX0_meanWeight_1
theorem dksX0_meanWeight_0 : cX0_meanWeight.data.toList.drop 0 = dktX0_meanWeight_0 := by decide +kernel
theorem dksX0_meanWeight_1 : cX0_meanWeight.data.toList.drop 24 = dktX0_meanWeight_1 := dk_seg dksX0_meanWeight_0 24 rfl rfl
theorem dX0_meanWeight_0 : decode cX0_meanWeight 0 = .ok (.aload_n 0, 1) := dk_42 (dk_at dksX0_meanWeight_0 0 rfl rfl)
theorem dX0_meanWeight_1 : decode cX0_meanWeight 1 = .ok (.getfield 18, 3) := dk_180 0 18 (dk_at dksX0_meanWeight_0 1 rfl rfl)
theorem dX0_meanWeight_4 : decode cX0_meanWeight 4 = .ok (.invokevirtual 371, 3) := dk_182 1 115 (dk_at dksX0_meanWeight_0 4 rfl rfl)
theorem dX0_meanWeight_7 : decode cX0_meanWeight 7 = .ok (.istore_n 1, 1) := dk_60 (dk_at dksX0_meanWeight_0 7 rfl rfl)
theorem dX0_meanWeight_8 : decode cX0_meanWeight 8 = .ok (.iload_n 1, 1) := dk_27 (dk_at dksX0_meanWeight_0 8 rfl rfl)
theorem dX0_meanWeight_9 : decode cX0_meanWeight 9 = .ok (.ifCond .ne 7, 3) := dk_154 0 7 (dk_at dksX0_meanWeight_0 9 rfl rfl)
theorem dX0_meanWeight_12 : decode cX0_meanWeight 12 = .ok (.dconst 0, 1) := dk_14 (dk_at dksX0_meanWeight_0 12 rfl rfl)
theorem dX0_meanWeight_13 : decode cX0_meanWeight 13 = .ok (.goto 14, 3) := dk_167 0 14 (dk_at dksX0_meanWeight_0 13 rfl rfl)
theorem dX0_meanWeight_16 : decode cX0_meanWeight 16 = .ok (.aload_n 0, 1) := dk_42 (dk_at dksX0_meanWeight_0 16 rfl rfl)
theorem dX0_meanWeight_17 : decode cX0_meanWeight 17 = .ok (.getfield 18, 3) := dk_180 0 18 (dk_at dksX0_meanWeight_0 17 rfl rfl)
theorem dX0_meanWeight_20 : decode cX0_meanWeight 20 = .ok (.invokevirtual 352, 3) := dk_182 1 96 (dk_at dksX0_meanWeight_0 20 rfl rfl)
theorem dX0_meanWeight_23 : decode cX0_meanWeight 23 = .ok (.i2d, 1) := dk_135 (dk_at dksX0_meanWeight_0 23 rfl rfl)
theorem dX0_meanWeight_24 : decode cX0_meanWeight 24 = .ok (.iload_n 1, 1) := dk_27 (dk_at dksX0_meanWeight_1 0 rfl rfl)
theorem dX0_meanWeight_25 : decode cX0_meanWeight 25 = .ok (.i2d, 1) := dk_135 (dk_at dksX0_meanWeight_1 1 rfl rfl)
theorem dX0_meanWeight_26 : decode cX0_meanWeight 26 = .ok (.ddiv, 1) := dk_111 (dk_at dksX0_meanWeight_1 2 rfl rfl)
theorem dX0_meanWeight_27 : decode cX0_meanWeight 27 = .ok (.dreturn, 1) := dk_175 (dk_at dksX0_meanWeight_1 3 rfl rfl)
abbrev cX0_usefulShare : ByteArray := prog_1_method_48_code
def yX0_usefulShare : MethodName := ⟨RX0, "usefulShare", "()F"⟩
def dkwX0_usefulShare_2 : List UInt8 := [50, 180, 1, 89, 96, 134, 110, 174]
abbrev dktX0_usefulShare_2 : List UInt8 := dkwX0_usefulShare_2 ++ []
def dkwX0_usefulShare_1 : List UInt8 := [96, 60, 27, 134, 42, 180, 0, 18, 180, 0, 178, 3, 50, 180, 1, 89, 42, 180, 0, 18, 180, 0, 178, 4]
abbrev dktX0_usefulShare_1 : List UInt8 := dkwX0_usefulShare_1 ++ dktX0_usefulShare_2
def dkwX0_usefulShare_0 : List UInt8 := [42, 180, 0, 18, 180, 0, 178, 3, 50, 182, 1, 117, 42, 180, 0, 18, 180, 0, 178, 4, 50, 182, 1, 117]
abbrev dktX0_usefulShare_0 : List UInt8 := dkwX0_usefulShare_0 ++ dktX0_usefulShare_1
theorem dksX0_usefulShare_0 : cX0_usefulShare.data.toList.drop 0 = dktX0_usefulShare_0 := by decide +kernel
theorem dksX0_usefulShare_1 : cX0_usefulShare.data.toList.drop 24 = dktX0_usefulShare_1 := dk_seg dksX0_usefulShare_0 24 rfl rfl
theorem dksX0_usefulShare_2 : cX0_usefulShare.data.toList.drop 48 = dktX0_usefulShare_2 := dk_seg dksX0_usefulShare_1 24 rfl rfl
theorem dX0_usefulShare_0 : decode cX0_usefulShare 0 = .ok (.aload_n 0, 1) := dk_42 (dk_at dksX0_usefulShare_0 0 rfl rfl)
theorem dX0_usefulShare_1 : decode cX0_usefulShare 1 = .ok (.getfield 18, 3) := dk_180 0 18 (dk_at dksX0_usefulShare_0 1 rfl rfl)
theorem dX0_usefulShare_4 : decode cX0_usefulShare 4 = .ok (.getfield 178, 3) := dk_180 0 178 (dk_at dksX0_usefulShare_0 4 rfl rfl)
theorem dX0_usefulShare_7 : decode cX0_usefulShare 7 = .ok (.iconst 0, 1) := dk_3 (dk_at dksX0_usefulShare_0 7 rfl rfl)
theorem dX0_usefulShare_8 : decode cX0_usefulShare 8 = .ok (.aaload, 1) := dk_50 (dk_at dksX0_usefulShare_0 8 rfl rfl)
theorem dX0_usefulShare_9 : decode cX0_usefulShare 9 = .ok (.invokevirtual 373, 3) := dk_182 1 117 (dk_at dksX0_usefulShare_0 9 rfl rfl)
theorem dX0_usefulShare_12 : decode cX0_usefulShare 12 = .ok (.aload_n 0, 1) := dk_42 (dk_at dksX0_usefulShare_0 12 rfl rfl)
theorem dX0_usefulShare_13 : decode cX0_usefulShare 13 = .ok (.getfield 18, 3) := dk_180 0 18 (dk_at dksX0_usefulShare_0 13 rfl rfl)
theorem dX0_usefulShare_16 : decode cX0_usefulShare 16 = .ok (.getfield 178, 3) := dk_180 0 178 (dk_at dksX0_usefulShare_0 16 rfl rfl)
theorem dX0_usefulShare_19 : decode cX0_usefulShare 19 = .ok (.iconst 1, 1) := dk_4 (dk_at dksX0_usefulShare_0 19 rfl rfl)
theorem dX0_usefulShare_20 : decode cX0_usefulShare 20 = .ok (.aaload, 1) := dk_50 (dk_at dksX0_usefulShare_0 20 rfl rfl)
theorem dX0_usefulShare_21 : decode cX0_usefulShare 21 = .ok (.invokevirtual 373, 3) := dk_182 1 117 (dk_at dksX0_usefulShare_0 21 rfl rfl)
theorem dX0_usefulShare_24 : decode cX0_usefulShare 24 = .ok (.iadd, 1) := dk_96 (dk_at dksX0_usefulShare_1 0 rfl rfl)
theorem dX0_usefulShare_25 : decode cX0_usefulShare 25 = .ok (.istore_n 1, 1) := dk_60 (dk_at dksX0_usefulShare_1 1 rfl rfl)
theorem dX0_usefulShare_26 : decode cX0_usefulShare 26 = .ok (.iload_n 1, 1) := dk_27 (dk_at dksX0_usefulShare_1 2 rfl rfl)
theorem dX0_usefulShare_27 : decode cX0_usefulShare 27 = .ok (.i2f, 1) := dk_134 (dk_at dksX0_usefulShare_1 3 rfl rfl)
theorem dX0_usefulShare_28 : decode cX0_usefulShare 28 = .ok (.aload_n 0, 1) := dk_42 (dk_at dksX0_usefulShare_1 4 rfl rfl)
theorem dX0_usefulShare_29 : decode cX0_usefulShare 29 = .ok (.getfield 18, 3) := dk_180 0 18 (dk_at dksX0_usefulShare_1 5 rfl rfl)
theorem dX0_usefulShare_32 : decode cX0_usefulShare 32 = .ok (.getfield 178, 3) := dk_180 0 178 (dk_at dksX0_usefulShare_1 8 rfl rfl)
theorem dX0_usefulShare_35 : decode cX0_usefulShare 35 = .ok (.iconst 0, 1) := dk_3 (dk_at dksX0_usefulShare_1 11 rfl rfl)
theorem dX0_usefulShare_36 : decode cX0_usefulShare 36 = .ok (.aaload, 1) := dk_50 (dk_at dksX0_usefulShare_1 12 rfl rfl)
theorem dX0_usefulShare_37 : decode cX0_usefulShare 37 = .ok (.getfield 345, 3) := dk_180 1 89 (dk_at dksX0_usefulShare_1 13 rfl rfl)
theorem dX0_usefulShare_40 : decode cX0_usefulShare 40 = .ok (.aload_n 0, 1) := dk_42 (dk_at dksX0_usefulShare_1 16 rfl rfl)
theorem dX0_usefulShare_41 : decode cX0_usefulShare 41 = .ok (.getfield 18, 3) := dk_180 0 18 (dk_at dksX0_usefulShare_1 17 rfl rfl)
theorem dX0_usefulShare_44 : decode cX0_usefulShare 44 = .ok (.getfield 178, 3) := dk_180 0 178 (dk_at dksX0_usefulShare_1 20 rfl rfl)
theorem dX0_usefulShare_47 : decode cX0_usefulShare 47 = .ok (.iconst 1, 1) := dk_4 (dk_at dksX0_usefulShare_1 23 rfl rfl)
theorem dX0_usefulShare_48 : decode cX0_usefulShare 48 = .ok (.aaload, 1) := dk_50 (dk_at dksX0_usefulShare_2 0 rfl rfl)
theorem dX0_usefulShare_49 : decode cX0_usefulShare 49 = .ok (.getfield 345, 3) := dk_180 1 89 (dk_at dksX0_usefulShare_2 1 rfl rfl)
theorem dX0_usefulShare_52 : decode cX0_usefulShare 52 = .ok (.iadd, 1) := dk_96 (dk_at dksX0_usefulShare_2 4 rfl rfl)
theorem dX0_usefulShare_53 : decode cX0_usefulShare 53 = .ok (.i2f, 1) := dk_134 (dk_at dksX0_usefulShare_2 5 rfl rfl)
theorem dX0_usefulShare_54 : decode cX0_usefulShare 54 = .ok (.fdiv, 1) := dk_110 (dk_at dksX0_usefulShare_2 6 rfl rfl)
theorem dX0_usefulShare_55 : decode cX0_usefulShare 55 = .ok (.freturn, 1) := dk_174 (dk_at dksX0_usefulShare_2 7 rfl rfl)
abbrev cX0_undo : ByteArray := prog_1_method_49_code
def yX0_undo : MethodName := ⟨RX0, "undo", "()I"⟩
def dkwX0_undo_1 : List UInt8 := [181, 0, 18, 42, 180, 0, 25, 182, 0, 163, 172]
abbrev dktX0_undo_1 : List UInt8 := dkwX0_undo_1 ++ []
def dkwX0_undo_0 : List UInt8 := [42, 180, 0, 25, 182, 1, 120, 153, 0, 6, 16, 241, 172, 42, 42, 180, 0, 25, 182, 1, 121, 192, 0, 15]
abbrev dktX0_undo_0 : List UInt8 := dkwX0_undo_0 ++ dktX0_undo_1
theorem dksX0_undo_0 : cX0_undo.data.toList.drop 0 = dktX0_undo_0 := by decide +kernel
theorem dksX0_undo_1 : cX0_undo.data.toList.drop 24 = dktX0_undo_1 := dk_seg dksX0_undo_0 24 rfl rfl
theorem dX0_undo_0 : decode cX0_undo 0 = .ok (.aload_n 0, 1) := dk_42 (dk_at dksX0_undo_0 0 rfl rfl)
theorem dX0_undo_1 : decode cX0_undo 1 = .ok (.getfield 25, 3) := dk_180 0 25 (dk_at dksX0_undo_0 1 rfl rfl)
theorem dX0_undo_4 : decode cX0_undo 4 = .ok (.invokevirtual 376, 3) := dk_182 1 120 (dk_at dksX0_undo_0 4 rfl rfl)
theorem dX0_undo_7 : decode cX0_undo 7 = .ok (.ifCond .eq 6, 3) := dk_153 0 6 (dk_at dksX0_undo_0 7 rfl rfl)
theorem dX0_undo_10 : decode cX0_undo 10 = .ok (.bipush (-15), 2) := dk_16 241 (dk_at dksX0_undo_0 10 rfl rfl)
theorem dX0_undo_12 : decode cX0_undo 12 = .ok (.ireturn, 1) := dk_172 (dk_at dksX0_undo_0 12 rfl rfl)
theorem dX0_undo_13 : decode cX0_undo 13 = .ok (.aload_n 0, 1) := dk_42 (dk_at dksX0_undo_0 13 rfl rfl)
theorem dX0_undo_14 : decode cX0_undo 14 = .ok (.aload_n 0, 1) := dk_42 (dk_at dksX0_undo_0 14 rfl rfl)
theorem dX0_undo_15 : decode cX0_undo 15 = .ok (.getfield 25, 3) := dk_180 0 25 (dk_at dksX0_undo_0 15 rfl rfl)
theorem dX0_undo_18 : decode cX0_undo 18 = .ok (.invokevirtual 377, 3) := dk_182 1 121 (dk_at dksX0_undo_0 18 rfl rfl)
theorem dX0_undo_21 : decode cX0_undo 21 = .ok (.checkcast 15, 3) := dk_192 0 15 (dk_at dksX0_undo_0 21 rfl rfl)
theorem dX0_undo_24 : decode cX0_undo 24 = .ok (.putfield 18, 3) := dk_181 0 18 (dk_at dksX0_undo_1 0 rfl rfl)
theorem dX0_undo_27 : decode cX0_undo 27 = .ok (.aload_n 0, 1) := dk_42 (dk_at dksX0_undo_1 3 rfl rfl)
theorem dX0_undo_28 : decode cX0_undo 28 = .ok (.getfield 25, 3) := dk_180 0 25 (dk_at dksX0_undo_1 4 rfl rfl)
theorem dX0_undo_31 : decode cX0_undo 31 = .ok (.invokevirtual 163, 3) := dk_182 0 163 (dk_at dksX0_undo_1 7 rfl rfl)
theorem dX0_undo_34 : decode cX0_undo 34 = .ok (.ireturn, 1) := dk_172 (dk_at dksX0_undo_1 10 rfl rfl)
abbrev cX0_save : ByteArray := prog_1_method_50_code
def yX0_save : MethodName := ⟨RX0, "save", "()I"⟩
def dkwX0_save_0 : List UInt8 := [42, 42, 180, 0, 18, 182, 0, 174, 181, 1, 124, 42, 180, 1, 124, 182, 1, 115, 172]
abbrev dktX0_save_0 : List UInt8 := dkwX0_save_0 ++ []
theorem dksX0_save_0 : cX0_save.data.toList.drop 0 = dktX0_save_0 := by decide +kernel
theorem dX0_save_0 : decode cX0_save 0 = .ok (.aload_n 0, 1) := dk_42 (dk_at dksX0_save_0 0 rfl rfl)
theorem dX0_save_1 : decode cX0_save 1 = .ok (.aload_n 0, 1) := dk_42 (dk_at dksX0_save_0 1 rfl rfl)
theorem dX0_save_2 : decode cX0_save 2 = .ok (.getfield 18, 3) := dk_180 0 18 (dk_at dksX0_save_0 2 rfl rfl)
theorem dX0_save_5 : decode cX0_save 5 = .ok (.invokevirtual 174, 3) := dk_182 0 174 (dk_at dksX0_save_0 5 rfl rfl)
theorem dX0_save_8 : decode cX0_save 8 = .ok (.putfield 380, 3) := dk_181 1 124 (dk_at dksX0_save_0 8 rfl rfl)
theorem dX0_save_11 : decode cX0_save 11 = .ok (.aload_n 0, 1) := dk_42 (dk_at dksX0_save_0 11 rfl rfl)
theorem dX0_save_12 : decode cX0_save 12 = .ok (.getfield 380, 3) := dk_180 1 124 (dk_at dksX0_save_0 12 rfl rfl)
theorem dX0_save_15 : decode cX0_save 15 = .ok (.invokevirtual 371, 3) := dk_182 1 115 (dk_at dksX0_save_0 15 rfl rfl)
theorem dX0_save_18 : decode cX0_save 18 = .ok (.ireturn, 1) := dk_172 (dk_at dksX0_save_0 18 rfl rfl)
abbrev cX0_restore : ByteArray := prog_1_method_51_code
def yX0_restore : MethodName := ⟨RX0, "restore", "()I"⟩
def dkwX0_restore_1 : List UInt8 := [180, 0, 25, 182, 1, 127, 42, 180, 0, 18, 182, 1, 115, 172]
abbrev dktX0_restore_1 : List UInt8 := dkwX0_restore_1 ++ []
def dkwX0_restore_0 : List UInt8 := [42, 180, 1, 124, 199, 0, 6, 16, 241, 172, 42, 42, 180, 1, 124, 182, 0, 174, 181, 0, 18, 42]
abbrev dktX0_restore_0 : List UInt8 := dkwX0_restore_0 ++ dktX0_restore_1
theorem dksX0_restore_0 : cX0_restore.data.toList.drop 0 = dktX0_restore_0 := by decide +kernel
theorem dksX0_restore_1 : cX0_restore.data.toList.drop 22 = dktX0_restore_1 := dk_seg dksX0_restore_0 22 rfl rfl
theorem dX0_restore_0 : decode cX0_restore 0 = .ok (.aload_n 0, 1) := dk_42 (dk_at dksX0_restore_0 0 rfl rfl)
theorem dX0_restore_1 : decode cX0_restore 1 = .ok (.getfield 380, 3) := dk_180 1 124 (dk_at dksX0_restore_0 1 rfl rfl)
theorem dX0_restore_4 : decode cX0_restore 4 = .ok (.ifnonnull 6, 3) := dk_199 0 6 (dk_at dksX0_restore_0 4 rfl rfl)
theorem dX0_restore_7 : decode cX0_restore 7 = .ok (.bipush (-15), 2) := dk_16 241 (dk_at dksX0_restore_0 7 rfl rfl)
theorem dX0_restore_9 : decode cX0_restore 9 = .ok (.ireturn, 1) := dk_172 (dk_at dksX0_restore_0 9 rfl rfl)
theorem dX0_restore_10 : decode cX0_restore 10 = .ok (.aload_n 0, 1) := dk_42 (dk_at dksX0_restore_0 10 rfl rfl)
theorem dX0_restore_11 : decode cX0_restore 11 = .ok (.aload_n 0, 1) := dk_42 (dk_at dksX0_restore_0 11 rfl rfl)
theorem dX0_restore_12 : decode cX0_restore 12 = .ok (.getfield 380, 3) := dk_180 1 124 (dk_at dksX0_restore_0 12 rfl rfl)
theorem dX0_restore_15 : decode cX0_restore 15 = .ok (.invokevirtual 174, 3) := dk_182 0 174 (dk_at dksX0_restore_0 15 rfl rfl)
theorem dX0_restore_18 : decode cX0_restore 18 = .ok (.putfield 18, 3) := dk_181 0 18 (dk_at dksX0_restore_0 18 rfl rfl)
theorem dX0_restore_21 : decode cX0_restore 21 = .ok (.aload_n 0, 1) := dk_42 (dk_at dksX0_restore_0 21 rfl rfl)
theorem dX0_restore_22 : decode cX0_restore 22 = .ok (.getfield 25, 3) := dk_180 0 25 (dk_at dksX0_restore_1 0 rfl rfl)
theorem dX0_restore_25 : decode cX0_restore 25 = .ok (.invokevirtual 383, 3) := dk_182 1 127 (dk_at dksX0_restore_1 3 rfl rfl)
theorem dX0_restore_28 : decode cX0_restore 28 = .ok (.aload_n 0, 1) := dk_42 (dk_at dksX0_restore_1 6 rfl rfl)
theorem dX0_restore_29 : decode cX0_restore 29 = .ok (.getfield 18, 3) := dk_180 0 18 (dk_at dksX0_restore_1 7 rfl rfl)
theorem dX0_restore_32 : decode cX0_restore 32 = .ok (.invokevirtual 371, 3) := dk_182 1 115 (dk_at dksX0_restore_1 10 rfl rfl)
theorem dX0_restore_35 : decode cX0_restore 35 = .ok (.ireturn, 1) := dk_172 (dk_at dksX0_restore_1 13 rfl rfl)
theorem q76 : (Jvm.Cond.initialized "ChantRules") ∈ lw_all := lw_g (lw_at lw_m1 1 rfl) rfl
theorem q117 : (Jvm.Cond.instantiable "ChantRules" (10 : Nat)) ∈ lw_all := lw_g (lw_at lw_m1 42 rfl) rfl
theorem q119 : (Jvm.Cond.instanceMethod ({ cls := "ChantRules", name := "<init>", desc := "()V" } : Jvm.MethodName)) ∈ lw_all := lw_g (lw_at lw_m1 44 rfl) rfl
theorem q120 : (Jvm.Cond.code ({ cls := "ChantRules", name := "<init>", desc := "()V" } : Jvm.MethodName) prog_1_method_1_code (6 : Nat) (Option.none : Option Jvm.ClassFile.FieldType)) ∈ lw_all := lw_g (lw_at lw_m1 45 rfl) rfl
theorem q121 : (Jvm.Cond.methodLink "ChantRules" (1 : Nat) ({ cls := "java/lang/Object", name := "<init>", desc := "()V" } : Jvm.MethodName)) ∈ lw_all := lw_g (lw_at lw_m1 46 rfl) rfl
theorem q124 : (Jvm.Cond.classLink "ChantRules" (9 : Nat) "ChantRules$Test") ∈ lw_all := lw_g (lw_at lw_m1 49 rfl) rfl
theorem q126 : (Jvm.Cond.classLink "ChantRules" (15 : Nat) "ChantRules$Choir") ∈ lw_all := lw_g (lw_at lw_m1 51 rfl) rfl
theorem q128 : (Jvm.Cond.methodLink "ChantRules" (17 : Nat) ({ cls := "ChantRules$Choir", name := "<init>", desc := "()V" } : Jvm.MethodName)) ∈ lw_all := lw_g (lw_at lw_m1 53 rfl) rfl
theorem q178 : (Jvm.Cond.fieldLinkNest "ChantRules" (329 : Nat) "ChantRules$Rule" "arcs" "Ljava/util/ArrayList;" "ChantRules") ∈ lw_tbl := lw_at lw_m1 103 rfl
theorem q183 : (Jvm.Cond.fieldLinkNest "ChantRules" (345 : Nat) "ChantRules$Rule" "states" "I" "ChantRules") ∈ lw_tbl := lw_at lw_m1 108 rfl
theorem q194 : (Jvm.Cond.fieldLinkNest "ChantRules" (178 : Nat) "ChantRules$Choir" "rules" "[LChantRules$Rule;" "ChantRules") ∈ lw_tbl := lw_at lw_m1 119 rfl
theorem q196 : (Jvm.Cond.fieldLinkNest "ChantRules" (359 : Nat) "ChantRules$Choir" "told" "I" "ChantRules") ∈ lw_tbl := lw_at lw_m1 121 rfl
theorem q198 : (Jvm.Cond.fieldLinkNest "ChantRules" (362 : Nat) "ChantRules$Choir" "dropped" "I" "ChantRules") ∈ lw_tbl := lw_at lw_m1 123 rfl
theorem q200 : (Jvm.Cond.fieldLinkNest "ChantRules" (365 : Nat) "ChantRules$Choir" "turns" "I" "ChantRules") ∈ lw_tbl := lw_at lw_m1 125 rfl
theorem q210 : (Jvm.Cond.classLink "ChantRules" (22 : Nat) "java/util/ArrayDeque") ∈ lw_all := lw_g (lw_at lw_m1 135 rfl) rfl
theorem q212 : (Jvm.Cond.methodLink "ChantRules" (24 : Nat) ({ cls := "java/util/ArrayDeque", name := "<init>", desc := "()V" } : Jvm.MethodName)) ∈ lw_all := lw_g (lw_at lw_m1 137 rfl) rfl
theorem q227 : (Jvm.Cond.classLink "ChantRules" (29 : Nat) "java/lang/StringBuilder") ∈ lw_all := lw_g (lw_at lw_m1 152 rfl) rfl
theorem q229 : (Jvm.Cond.methodLink "ChantRules" (31 : Nat) ({ cls := "java/lang/StringBuilder", name := "<init>", desc := "()V" } : Jvm.MethodName)) ∈ lw_all := lw_g (lw_at lw_m1 154 rfl) rfl
theorem q260 : (Jvm.Cond.stringRef "ChantRules" (36 : Nat) "") ∈ lw_tbl := lw_at lw_m1 185 rfl
theorem q261 : (Jvm.Cond.methodLink "ChantRules" (42 : Nat) ({ cls := "ChantRules$Sound", name := "values", desc := "()[LChantRules$Sound;" } : Jvm.MethodName)) ∈ lw_all := lw_g (lw_at lw_m1 186 rfl) rfl
theorem q274 : (Jvm.Cond.methodLink "ChantRules" (48 : Nat) ({ cls := "ChantRules$Sound", name := "ordinal", desc := "()I" } : Jvm.MethodName)) ∈ lw_all := lw_g (lw_at lw_m1 199 rfl) rfl
theorem q281 : (Jvm.Cond.static ({ cls := "ChantRules", name := "lambda$new$0", desc := "(ILChantRules$Arc;)Z" } : Jvm.MethodName)) ∈ lw_all := lw_g (lw_at lw_m1 206 rfl) rfl
theorem q282 : (Jvm.Cond.code ({ cls := "ChantRules", name := "lambda$new$0", desc := "(ILChantRules$Arc;)Z" } : Jvm.MethodName) prog_1_method_52_code (2 : Nat) (Option.some Jvm.ClassFile.FieldType.boolean)) ∈ lw_all := lw_g (lw_at lw_m1 207 rfl) rfl
theorem q283 : (Jvm.Cond.interfaceEntry "ChantRules" (118 : Nat)) ∈ lw_tbl := lw_at lw_m1 208 rfl
theorem q284 : (Jvm.Cond.methodLink "ChantRules" (118 : Nat) ({ cls := "ChantRules$Arc", name := "hears", desc := "()I" } : Jvm.MethodName)) ∈ lw_all := lw_g (lw_at lw_m1 209 rfl) rfl
theorem q299 : (Jvm.Cond.fieldLink "ChantRules" (11 : Nat) "ChantRules" "hears" "[LChantRules$Test;") ∈ lw_all := lw_g (lw_at lw_m1 224 rfl) rfl
theorem q300 : (Jvm.Cond.fieldLink "ChantRules" (18 : Nat) "ChantRules" "choir" "LChantRules$Choir;") ∈ lw_all := lw_g (lw_at lw_m1 225 rfl) rfl
theorem q301 : (Jvm.Cond.fieldLink "ChantRules" (380 : Nat) "ChantRules" "saved" "LChantRules$Choir;") ∈ lw_all := lw_g (lw_at lw_m1 226 rfl) rfl
theorem q302 : (Jvm.Cond.fieldLink "ChantRules" (25 : Nat) "ChantRules" "past" "Ljava/util/ArrayDeque;") ∈ lw_all := lw_g (lw_at lw_m1 227 rfl) rfl
theorem q303 : (Jvm.Cond.fieldLink "ChantRules" (69 : Nat) "ChantRules" "reason" "I") ∈ lw_all := lw_g (lw_at lw_m1 228 rfl) rfl
theorem q304 : (Jvm.Cond.fieldLink "ChantRules" (73 : Nat) "ChantRules" "detail" "I") ∈ lw_all := lw_g (lw_at lw_m1 229 rfl) rfl
theorem q305 : (Jvm.Cond.fieldLink "ChantRules" (74 : Nat) "ChantRules" "behind" "I") ∈ lw_all := lw_g (lw_at lw_m1 230 rfl) rfl
theorem q306 : (Jvm.Cond.fieldLink "ChantRules" (81 : Nat) "ChantRules" "behindDetail" "I") ∈ lw_all := lw_g (lw_at lw_m1 231 rfl) rfl
theorem q307 : (Jvm.Cond.fieldLink "ChantRules" (32 : Nat) "ChantRules" "text" "Ljava/lang/StringBuilder;") ∈ lw_all := lw_g (lw_at lw_m1 232 rfl) rfl
theorem q309 : (Jvm.Cond.fieldLink "ChantRules" (38 : Nat) "ChantRules" "line" "Ljava/lang/String;") ∈ lw_all := lw_g (lw_at lw_m1 234 rfl) rfl
theorem q310 : (Jvm.Cond.laysFinal "ChantRules" "ChantRules" "hears" "[LChantRules$Test;") ∈ lw_all := lw_g (lw_at lw_m1 235 rfl) rfl
theorem q311 : (Jvm.Cond.soleField "ChantRules" "hears") ∈ lw_all := lw_g (lw_at lw_m1 236 rfl) rfl
theorem q312 : (Jvm.Cond.lays "ChantRules" "ChantRules" "choir" "LChantRules$Choir;") ∈ lw_all := lw_g (lw_at lw_m1 237 rfl) rfl
theorem q313 : (Jvm.Cond.soleField "ChantRules" "choir") ∈ lw_all := lw_g (lw_at lw_m1 238 rfl) rfl
theorem q314 : (Jvm.Cond.lays "ChantRules" "ChantRules" "saved" "LChantRules$Choir;") ∈ lw_all := lw_g (lw_at lw_m1 239 rfl) rfl
theorem q315 : (Jvm.Cond.soleField "ChantRules" "saved") ∈ lw_all := lw_g (lw_at lw_m2 0 rfl) rfl
theorem q316 : (Jvm.Cond.laysFinal "ChantRules" "ChantRules" "past" "Ljava/util/ArrayDeque;") ∈ lw_all := lw_g (lw_at lw_m2 1 rfl) rfl
theorem q317 : (Jvm.Cond.soleField "ChantRules" "past") ∈ lw_all := lw_g (lw_at lw_m2 2 rfl) rfl
theorem q318 : (Jvm.Cond.lays "ChantRules" "ChantRules" "reason" "I") ∈ lw_all := lw_g (lw_at lw_m2 3 rfl) rfl
theorem q319 : (Jvm.Cond.soleField "ChantRules" "reason") ∈ lw_all := lw_g (lw_at lw_m2 4 rfl) rfl
theorem q320 : (Jvm.Cond.lays "ChantRules" "ChantRules" "detail" "I") ∈ lw_all := lw_g (lw_at lw_m2 5 rfl) rfl
theorem q321 : (Jvm.Cond.soleField "ChantRules" "detail") ∈ lw_all := lw_g (lw_at lw_m2 6 rfl) rfl
theorem q322 : (Jvm.Cond.lays "ChantRules" "ChantRules" "behind" "I") ∈ lw_all := lw_g (lw_at lw_m2 7 rfl) rfl
theorem q323 : (Jvm.Cond.soleField "ChantRules" "behind") ∈ lw_all := lw_g (lw_at lw_m2 8 rfl) rfl
theorem q324 : (Jvm.Cond.lays "ChantRules" "ChantRules" "behindDetail" "I") ∈ lw_all := lw_g (lw_at lw_m2 9 rfl) rfl
theorem q325 : (Jvm.Cond.soleField "ChantRules" "behindDetail") ∈ lw_all := lw_g (lw_at lw_m2 10 rfl) rfl
theorem q326 : (Jvm.Cond.laysFinal "ChantRules" "ChantRules" "text" "Ljava/lang/StringBuilder;") ∈ lw_all := lw_g (lw_at lw_m2 11 rfl) rfl
theorem q327 : (Jvm.Cond.soleField "ChantRules" "text") ∈ lw_all := lw_g (lw_at lw_m2 12 rfl) rfl
theorem q328 : (Jvm.Cond.lays "ChantRules" "ChantRules" "line" "Ljava/lang/String;") ∈ lw_all := lw_g (lw_at lw_m2 13 rfl) rfl
theorem q329 : (Jvm.Cond.soleField "ChantRules" "line") ∈ lw_all := lw_g (lw_at lw_m2 14 rfl) rfl
theorem q330 : (Jvm.Cond.superclass "ChantRules" "java/lang/Object") ∈ lw_all := lw_g (lw_at lw_m2 15 rfl) rfl
theorem q332 : (Jvm.Cond.instanceMethod ({ cls := "ChantRules", name := "state", desc := "(I)I" } : Jvm.MethodName)) ∈ lw_all := lw_g (lw_at lw_m2 17 rfl) rfl
theorem q333 : (Jvm.Cond.selects "ChantRules" ({ cls := "ChantRules", name := "state", desc := "(I)I" } : Jvm.MethodName) ({ cls := "ChantRules", name := "state", desc := "(I)I" } : Jvm.MethodName)) ∈ lw_all := lw_g (lw_at lw_m2 18 rfl) rfl
theorem q334 : (Jvm.Cond.codeWith ({ cls := "ChantRules", name := "state", desc := "(I)I" } : Jvm.MethodName) prog_1_method_17_code (4 : Nat) (Option.some Jvm.ClassFile.FieldType.int) [((18 : Nat), (35 : Nat), (36 : Nat), (60 : Nat))]) ∈ lw_all := lw_g (lw_at lw_m2 19 rfl) rfl
theorem q335 : (Jvm.Cond.classLink "ChantRules" (60 : Nat) "ChantRules$Refused") ∈ lw_all := lw_g (lw_at lw_m2 20 rfl) rfl
theorem q336 : (Jvm.Cond.methodLink "ChantRules" (170 : Nat) ({ cls := "ChantRules", name := "isRule", desc := "(I)Z" } : Jvm.MethodName)) ∈ lw_all := lw_g (lw_at lw_m2 21 rfl) rfl
theorem q337 : (Jvm.Cond.static ({ cls := "ChantRules", name := "isRule", desc := "(I)Z" } : Jvm.MethodName)) ∈ lw_all := lw_g (lw_at lw_m2 22 rfl) rfl
theorem q338 : (Jvm.Cond.code ({ cls := "ChantRules", name := "isRule", desc := "(I)Z" } : Jvm.MethodName) prog_1_method_3_code (1 : Nat) (Option.some Jvm.ClassFile.FieldType.boolean)) ∈ lw_all := lw_g (lw_at lw_m2 23 rfl) rfl
theorem q339 : (Jvm.Cond.methodLink "ChantRules" (56 : Nat) ({ cls := "ChantRules", name := "isIn", desc := "(III)Z" } : Jvm.MethodName)) ∈ lw_all := lw_g (lw_at lw_m2 24 rfl) rfl
theorem q340 : (Jvm.Cond.static ({ cls := "ChantRules", name := "isIn", desc := "(III)Z" } : Jvm.MethodName)) ∈ lw_all := lw_g (lw_at lw_m2 25 rfl) rfl
theorem q341 : (Jvm.Cond.code ({ cls := "ChantRules", name := "isIn", desc := "(III)Z" } : Jvm.MethodName) prog_1_method_2_code (3 : Nat) (Option.some Jvm.ClassFile.FieldType.boolean)) ∈ lw_all := lw_g (lw_at lw_m2 26 rfl) rfl
theorem q342 : (Jvm.Cond.methodLink "ChantRules" (174 : Nat) ({ cls := "ChantRules$Choir", name := "copy", desc := "()LChantRules$Choir;" } : Jvm.MethodName)) ∈ lw_all := lw_g (lw_at lw_m2 27 rfl) rfl
theorem q435 : (Jvm.Cond.selects "ChantRules" ({ cls := "java/lang/Object", name := "getClass", desc := "()Ljava/lang/Class;" } : Jvm.MethodName) ({ cls := "java/lang/Object", name := "getClass", desc := "()Ljava/lang/Class;" } : Jvm.MethodName)) ∈ lw_all := lw_g (lw_at lw_m2 120 rfl) rfl
theorem q470 : (Jvm.Cond.methodLink "ChantRules" (182 : Nat) ({ cls := "ChantRules$Rule", name := "tells", desc := "()I" } : Jvm.MethodName)) ∈ lw_all := lw_g (lw_at lw_m2 155 rfl) rfl
theorem q475 : (Jvm.Cond.static ({ cls := "ChantRules", name := "refuse", desc := "(ZII)V" } : Jvm.MethodName)) ∈ lw_all := lw_g (lw_at lw_m2 160 rfl) rfl
theorem q476 : (Jvm.Cond.code ({ cls := "ChantRules", name := "refuse", desc := "(ZII)V" } : Jvm.MethodName) prog_1_method_6_code (3 : Nat) (Option.none : Option Jvm.ClassFile.FieldType)) ∈ lw_all := lw_g (lw_at lw_m2 161 rfl) rfl
theorem q514 : (Jvm.Cond.methodLink "ChantRules" (62 : Nat) ({ cls := "ChantRules$Refused", name := "<init>", desc := "(II)V" } : Jvm.MethodName)) ∈ lw_all := lw_g (lw_at lw_m2 199 rfl) rfl
theorem q527 : (Jvm.Cond.fieldLinkNest "ChantRules" (65 : Nat) "ChantRules$Refused" "reason" "I" "ChantRules") ∈ lw_tbl := lw_at lw_m2 212 rfl
theorem q529 : (Jvm.Cond.fieldLinkNest "ChantRules" (70 : Nat) "ChantRules$Refused" "detail" "I" "ChantRules") ∈ lw_tbl := lw_at lw_m2 214 rfl
theorem q547 : (Jvm.Cond.methodLink "ChantRules" (187 : Nat) ({ cls := "ChantRules", name := "changed", desc := "(LChantRules$Choir;I)I" } : Jvm.MethodName)) ∈ lw_all := lw_g (lw_at lw_m2 232 rfl) rfl
theorem q548 : (Jvm.Cond.privateMethod ({ cls := "ChantRules", name := "changed", desc := "(LChantRules$Choir;I)I" } : Jvm.MethodName)) ∈ lw_tbl := lw_at lw_m2 233 rfl
theorem q549 : (Jvm.Cond.instanceMethod ({ cls := "ChantRules", name := "changed", desc := "(LChantRules$Choir;I)I" } : Jvm.MethodName)) ∈ lw_all := lw_g (lw_at lw_m2 234 rfl) rfl
theorem q550 : (Jvm.Cond.code ({ cls := "ChantRules", name := "changed", desc := "(LChantRules$Choir;I)I" } : Jvm.MethodName) prog_1_method_16_code (3 : Nat) (Option.some Jvm.ClassFile.FieldType.int)) ∈ lw_all := lw_g (lw_at lw_m2 235 rfl) rfl
theorem q551 : (Jvm.Cond.methodLink "ChantRules" (159 : Nat) ({ cls := "java/util/ArrayDeque", name := "addLast", desc := "(Ljava/lang/Object;)V" } : Jvm.MethodName)) ∈ lw_all := lw_g (lw_at lw_m2 236 rfl) rfl
theorem q570 : (Jvm.Cond.methodLink "ChantRules" (163 : Nat) ({ cls := "java/util/ArrayDeque", name := "size", desc := "()I" } : Jvm.MethodName)) ∈ lw_all := lw_g (lw_at lw_m3 15 rfl) rfl
theorem q577 : (Jvm.Cond.methodLink "ChantRules" (166 : Nat) ({ cls := "java/util/ArrayDeque", name := "removeFirst", desc := "()Ljava/lang/Object;" } : Jvm.MethodName)) ∈ lw_all := lw_g (lw_at lw_m3 22 rfl) rfl
theorem q588 : (Jvm.Cond.methodLink "ChantRules" (191 : Nat) ({ cls := "ChantRules", name := "refused", desc := "(LChantRules$Refused;)I" } : Jvm.MethodName)) ∈ lw_all := lw_g (lw_at lw_m3 33 rfl) rfl
theorem q589 : (Jvm.Cond.privateMethod ({ cls := "ChantRules", name := "refused", desc := "(LChantRules$Refused;)I" } : Jvm.MethodName)) ∈ lw_tbl := lw_at lw_m3 34 rfl
theorem q590 : (Jvm.Cond.instanceMethod ({ cls := "ChantRules", name := "refused", desc := "(LChantRules$Refused;)I" } : Jvm.MethodName)) ∈ lw_all := lw_g (lw_at lw_m3 35 rfl) rfl
theorem q591 : (Jvm.Cond.code ({ cls := "ChantRules", name := "refused", desc := "(LChantRules$Refused;)I" } : Jvm.MethodName) prog_1_method_7_code (4 : Nat) (Option.some Jvm.ClassFile.FieldType.int)) ∈ lw_all := lw_g (lw_at lw_m3 36 rfl) rfl
theorem q592 : (Jvm.Cond.methodLink "ChantRules" (77 : Nat) ({ cls := "ChantRules$Refused", name := "getCause", desc := "()Ljava/lang/Throwable;" } : Jvm.MethodName)) ∈ lw_all := lw_g (lw_at lw_m3 37 rfl) rfl
theorem q599 : (Jvm.Cond.instanceMethod ({ cls := "ChantRules", name := "end", desc := "(III)I" } : Jvm.MethodName)) ∈ lw_all := lw_g (lw_at lw_m3 44 rfl) rfl
theorem q600 : (Jvm.Cond.selects "ChantRules" ({ cls := "ChantRules", name := "end", desc := "(III)I" } : Jvm.MethodName) ({ cls := "ChantRules", name := "end", desc := "(III)I" } : Jvm.MethodName)) ∈ lw_all := lw_g (lw_at lw_m3 45 rfl) rfl
theorem q601 : (Jvm.Cond.codeWith ({ cls := "ChantRules", name := "end", desc := "(III)I" } : Jvm.MethodName) prog_1_method_18_code (6 : Nat) (Option.some Jvm.ClassFile.FieldType.int) [((39 : Nat), (59 : Nat), (60 : Nat), (60 : Nat))]) ∈ lw_all := lw_g (lw_at lw_m3 46 rfl) rfl
theorem q602 : (Jvm.Cond.methodLink "ChantRules" (195 : Nat) ({ cls := "ChantRules$Choir", name := "isState", desc := "(II)Z" } : Jvm.MethodName)) ∈ lw_all := lw_g (lw_at lw_m3 47 rfl) rfl
theorem q612 : (Jvm.Cond.methodLink "ChantRules" (199 : Nat) ({ cls := "ChantRules", name := "isWeight", desc := "(I)Z" } : Jvm.MethodName)) ∈ lw_all := lw_g (lw_at lw_m3 57 rfl) rfl
theorem q613 : (Jvm.Cond.static ({ cls := "ChantRules", name := "isWeight", desc := "(I)Z" } : Jvm.MethodName)) ∈ lw_all := lw_g (lw_at lw_m3 58 rfl) rfl
theorem q614 : (Jvm.Cond.code ({ cls := "ChantRules", name := "isWeight", desc := "(I)Z" } : Jvm.MethodName) prog_1_method_4_code (1 : Nat) (Option.some Jvm.ClassFile.FieldType.boolean)) ∈ lw_all := lw_g (lw_at lw_m3 59 rfl) rfl
theorem q615 : (Jvm.Cond.methodLink "ChantRules" (202 : Nat) ({ cls := "ChantRules$Rule", name := "ends", desc := "(II)I" } : Jvm.MethodName)) ∈ lw_all := lw_g (lw_at lw_m3 60 rfl) rfl
theorem q624 : (Jvm.Cond.instanceMethod ({ cls := "ChantRules", name := "arc", desc := "(IIIIII)I" } : Jvm.MethodName)) ∈ lw_all := lw_g (lw_at lw_m3 69 rfl) rfl
theorem q625 : (Jvm.Cond.selects "ChantRules" ({ cls := "ChantRules", name := "arc", desc := "(IIIIII)I" } : Jvm.MethodName) ({ cls := "ChantRules", name := "arc", desc := "(IIIIII)I" } : Jvm.MethodName)) ∈ lw_all := lw_g (lw_at lw_m3 70 rfl) rfl
theorem q626 : (Jvm.Cond.codeWith ({ cls := "ChantRules", name := "arc", desc := "(IIIIII)I" } : Jvm.MethodName) prog_1_method_19_code (9 : Nat) (Option.some Jvm.ClassFile.FieldType.int) [((57 : Nat), (82 : Nat), (83 : Nat), (60 : Nat))]) ∈ lw_all := lw_g (lw_at lw_m3 71 rfl) rfl
theorem q627 : (Jvm.Cond.methodLink "ChantRules" (206 : Nat) ({ cls := "ChantRules", name := "areSounds", desc := "(II)Z" } : Jvm.MethodName)) ∈ lw_all := lw_g (lw_at lw_m3 72 rfl) rfl
theorem q628 : (Jvm.Cond.static ({ cls := "ChantRules", name := "areSounds", desc := "(II)Z" } : Jvm.MethodName)) ∈ lw_all := lw_g (lw_at lw_m3 73 rfl) rfl
theorem q629 : (Jvm.Cond.code ({ cls := "ChantRules", name := "areSounds", desc := "(II)Z" } : Jvm.MethodName) prog_1_method_5_code (2 : Nat) (Option.some Jvm.ClassFile.FieldType.boolean)) ∈ lw_all := lw_g (lw_at lw_m3 74 rfl) rfl
theorem q630 : (Jvm.Cond.methodLink "ChantRules" (123 : Nat) ({ cls := "ChantRules", name := "arcOf", desc := "(IIIII)LChantRules$Arc;" } : Jvm.MethodName)) ∈ lw_all := lw_g (lw_at lw_m3 75 rfl) rfl
theorem q631 : (Jvm.Cond.static ({ cls := "ChantRules", name := "arcOf", desc := "(IIIII)LChantRules$Arc;" } : Jvm.MethodName)) ∈ lw_all := lw_g (lw_at lw_m3 76 rfl) rfl
theorem q632 : (Jvm.Cond.code ({ cls := "ChantRules", name := "arcOf", desc := "(IIIII)LChantRules$Arc;" } : Jvm.MethodName) prog_1_method_9_code (5 : Nat) (Option.some (Jvm.ClassFile.FieldType.object "ChantRules$Arc"))) ∈ lw_all := lw_g (lw_at lw_m3 77 rfl) rfl
theorem q633 : (Jvm.Cond.classLink "ChantRules" (100 : Nat) "ChantRules$Breathed") ∈ lw_all := lw_g (lw_at lw_m3 78 rfl) rfl
theorem q635 : (Jvm.Cond.methodLink "ChantRules" (102 : Nat) ({ cls := "ChantRules$Breathed", name := "<init>", desc := "(IIII)V" } : Jvm.MethodName)) ∈ lw_all := lw_g (lw_at lw_m3 80 rfl) rfl
theorem q656 : (Jvm.Cond.classLink "ChantRules" (105 : Nat) "ChantRules$Heard") ∈ lw_all := lw_g (lw_at lw_m3 101 rfl) rfl
theorem q658 : (Jvm.Cond.methodLink "ChantRules" (107 : Nat) ({ cls := "ChantRules$Heard", name := "<init>", desc := "(IIIII)V" } : Jvm.MethodName)) ∈ lw_all := lw_g (lw_at lw_m3 103 rfl) rfl
theorem q680 : (Jvm.Cond.methodLink "ChantRules" (209 : Nat) ({ cls := "ChantRules$Choir", name := "tells", desc := "(ILChantRules$Arc;)I" } : Jvm.MethodName)) ∈ lw_all := lw_g (lw_at lw_m3 125 rfl) rfl
theorem q707 : (Jvm.Cond.static ({ cls := "ChantRules", name := "areAlike", desc := "(LChantRules$Arc;LChantRules$Arc;)Z" } : Jvm.MethodName)) ∈ lw_all := lw_g (lw_at lw_m3 152 rfl) rfl
theorem q708 : (Jvm.Cond.code ({ cls := "ChantRules", name := "areAlike", desc := "(LChantRules$Arc;LChantRules$Arc;)Z" } : Jvm.MethodName) prog_1_method_12_code (2 : Nat) (Option.some Jvm.ClassFile.FieldType.boolean)) ∈ lw_all := lw_g (lw_at lw_m3 153 rfl) rfl
theorem q709 : (Jvm.Cond.interfaceEntry "ChantRules" (110 : Nat)) ∈ lw_tbl := lw_at lw_m3 154 rfl
theorem q710 : (Jvm.Cond.methodLink "ChantRules" (110 : Nat) ({ cls := "ChantRules$Arc", name := "from", desc := "()I" } : Jvm.MethodName)) ∈ lw_all := lw_g (lw_at lw_m3 155 rfl) rfl
theorem q723 : (Jvm.Cond.interfaceEntry "ChantRules" (115 : Nat)) ∈ lw_tbl := lw_at lw_m3 168 rfl
theorem q724 : (Jvm.Cond.methodLink "ChantRules" (115 : Nat) ({ cls := "ChantRules$Arc", name := "to", desc := "()I" } : Jvm.MethodName)) ∈ lw_all := lw_g (lw_at lw_m3 169 rfl) rfl
theorem q737 : (Jvm.Cond.interfaceEntry "ChantRules" (120 : Nat)) ∈ lw_tbl := lw_at lw_m3 182 rfl
theorem q738 : (Jvm.Cond.methodLink "ChantRules" (120 : Nat) ({ cls := "ChantRules$Arc", name := "sings", desc := "()I" } : Jvm.MethodName)) ∈ lw_all := lw_g (lw_at lw_m3 183 rfl) rfl
theorem q752 : (Jvm.Cond.instanceMethod ({ cls := "ChantRules", name := "weigh", desc := "(III)I" } : Jvm.MethodName)) ∈ lw_all := lw_g (lw_at lw_m3 197 rfl) rfl
theorem q753 : (Jvm.Cond.selects "ChantRules" ({ cls := "ChantRules", name := "weigh", desc := "(III)I" } : Jvm.MethodName) ({ cls := "ChantRules", name := "weigh", desc := "(III)I" } : Jvm.MethodName)) ∈ lw_all := lw_g (lw_at lw_m3 198 rfl) rfl
theorem q754 : (Jvm.Cond.codeWith ({ cls := "ChantRules", name := "weigh", desc := "(III)I" } : Jvm.MethodName) prog_1_method_20_code (6 : Nat) (Option.some Jvm.ClassFile.FieldType.int) [((34 : Nat), (54 : Nat), (55 : Nat), (60 : Nat))]) ∈ lw_all := lw_g (lw_at lw_m3 199 rfl) rfl
theorem q755 : (Jvm.Cond.methodLink "ChantRules" (212 : Nat) ({ cls := "ChantRules$Choir", name := "isArc", desc := "(II)Z" } : Jvm.MethodName)) ∈ lw_all := lw_g (lw_at lw_m3 200 rfl) rfl
theorem q763 : (Jvm.Cond.methodLink "ChantRules" (215 : Nat) ({ cls := "ChantRules$Rule", name := "weighs", desc := "(II)I" } : Jvm.MethodName)) ∈ lw_all := lw_g (lw_at lw_m3 208 rfl) rfl
theorem q782 : (Jvm.Cond.static ({ cls := "ChantRules", name := "weighed", desc := "(LChantRules$Arc;I)LChantRules$Arc;" } : Jvm.MethodName)) ∈ lw_all := lw_g (lw_at lw_m3 227 rfl) rfl
theorem q783 : (Jvm.Cond.code ({ cls := "ChantRules", name := "weighed", desc := "(LChantRules$Arc;I)LChantRules$Arc;" } : Jvm.MethodName) prog_1_method_10_code (2 : Nat) (Option.some (Jvm.ClassFile.FieldType.object "ChantRules$Arc"))) ∈ lw_all := lw_g (lw_at lw_m3 228 rfl) rfl
theorem q789 : (Jvm.Cond.instanceMethod ({ cls := "ChantRules", name := "drop", desc := "(II)I" } : Jvm.MethodName)) ∈ lw_all := lw_g (lw_at lw_m3 234 rfl) rfl
theorem q790 : (Jvm.Cond.selects "ChantRules" ({ cls := "ChantRules", name := "drop", desc := "(II)I" } : Jvm.MethodName) ({ cls := "ChantRules", name := "drop", desc := "(II)I" } : Jvm.MethodName)) ∈ lw_all := lw_g (lw_at lw_m3 235 rfl) rfl
theorem q791 : (Jvm.Cond.code ({ cls := "ChantRules", name := "drop", desc := "(II)I" } : Jvm.MethodName) prog_1_method_21_code (4 : Nat) (Option.some Jvm.ClassFile.FieldType.int)) ∈ lw_all := lw_g (lw_at lw_m3 236 rfl) rfl
theorem q792 : (Jvm.Cond.methodLink "ChantRules" (218 : Nat) ({ cls := "ChantRules$Choir", name := "drops", desc := "(II)I" } : Jvm.MethodName)) ∈ lw_all := lw_g (lw_at lw_m3 237 rfl) rfl
theorem q810 : (Jvm.Cond.instanceMethod ({ cls := "ChantRules", name := "turn", desc := "(I)I" } : Jvm.MethodName)) ∈ lw_all := lw_g (lw_at lw_m4 15 rfl) rfl
theorem q811 : (Jvm.Cond.selects "ChantRules" ({ cls := "ChantRules", name := "turn", desc := "(I)I" } : Jvm.MethodName) ({ cls := "ChantRules", name := "turn", desc := "(I)I" } : Jvm.MethodName)) ∈ lw_all := lw_g (lw_at lw_m4 16 rfl) rfl
theorem q812 : (Jvm.Cond.codeWith ({ cls := "ChantRules", name := "turn", desc := "(I)I" } : Jvm.MethodName) prog_1_method_22_code (4 : Nat) (Option.some Jvm.ClassFile.FieldType.int) [((18 : Nat), (31 : Nat), (32 : Nat), (60 : Nat))]) ∈ lw_all := lw_g (lw_at lw_m4 17 rfl) rfl
theorem q813 : (Jvm.Cond.methodLink "ChantRules" (221 : Nat) ({ cls := "ChantRules$Choir", name := "turns", desc := "(I)I" } : Jvm.MethodName)) ∈ lw_all := lw_g (lw_at lw_m4 18 rfl) rfl
theorem q826 : (Jvm.Cond.static ({ cls := "ChantRules", name := "turned", desc := "(LChantRules$Arc;)LChantRules$Arc;" } : Jvm.MethodName)) ∈ lw_all := lw_g (lw_at lw_m4 31 rfl) rfl
theorem q827 : (Jvm.Cond.code ({ cls := "ChantRules", name := "turned", desc := "(LChantRules$Arc;)LChantRules$Arc;" } : Jvm.MethodName) prog_1_method_11_code (1 : Nat) (Option.some (Jvm.ClassFile.FieldType.object "ChantRules$Arc"))) ∈ lw_all := lw_g (lw_at lw_m4 32 rfl) rfl
theorem q828 : (Jvm.Cond.interfaceEntry "ChantRules" (127 : Nat)) ∈ lw_tbl := lw_at lw_m4 33 rfl
theorem q829 : (Jvm.Cond.methodLink "ChantRules" (127 : Nat) ({ cls := "ChantRules$Arc", name := "weight", desc := "()I" } : Jvm.MethodName)) ∈ lw_all := lw_g (lw_at lw_m4 34 rfl) rfl
theorem q831 : (Jvm.Cond.instanceMethod ({ cls := "ChantRules", name := "arcOf", desc := "(III)I" } : Jvm.MethodName)) ∈ lw_all := lw_g (lw_at lw_m4 36 rfl) rfl
theorem q832 : (Jvm.Cond.selects "ChantRules" ({ cls := "ChantRules", name := "arcOf", desc := "(III)I" } : Jvm.MethodName) ({ cls := "ChantRules", name := "arcOf", desc := "(III)I" } : Jvm.MethodName)) ∈ lw_all := lw_g (lw_at lw_m4 37 rfl) rfl
theorem q833 : (Jvm.Cond.code ({ cls := "ChantRules", name := "arcOf", desc := "(III)I" } : Jvm.MethodName) prog_1_method_23_code (4 : Nat) (Option.some Jvm.ClassFile.FieldType.int)) ∈ lw_all := lw_g (lw_at lw_m4 38 rfl) rfl
theorem q834 : (Jvm.Cond.methodLink "ChantRules" (225 : Nat) ({ cls := "ChantRules$Rule", name := "ofArc", desc := "(II)I" } : Jvm.MethodName)) ∈ lw_all := lw_g (lw_at lw_m4 39 rfl) rfl
theorem q843 : (Jvm.Cond.instanceMethod ({ cls := "ChantRules", name := "stateOf", desc := "(III)I" } : Jvm.MethodName)) ∈ lw_all := lw_g (lw_at lw_m4 48 rfl) rfl
theorem q844 : (Jvm.Cond.selects "ChantRules" ({ cls := "ChantRules", name := "stateOf", desc := "(III)I" } : Jvm.MethodName) ({ cls := "ChantRules", name := "stateOf", desc := "(III)I" } : Jvm.MethodName)) ∈ lw_all := lw_g (lw_at lw_m4 49 rfl) rfl
theorem q845 : (Jvm.Cond.code ({ cls := "ChantRules", name := "stateOf", desc := "(III)I" } : Jvm.MethodName) prog_1_method_24_code (4 : Nat) (Option.some Jvm.ClassFile.FieldType.int)) ∈ lw_all := lw_g (lw_at lw_m4 50 rfl) rfl
theorem q846 : (Jvm.Cond.methodLink "ChantRules" (228 : Nat) ({ cls := "ChantRules$Rule", name := "ofState", desc := "(II)I" } : Jvm.MethodName)) ∈ lw_all := lw_g (lw_at lw_m4 51 rfl) rfl
theorem q929 : (Jvm.Cond.instanceMethod ({ cls := "ChantRules", name := "least", desc := "(I)I" } : Jvm.MethodName)) ∈ lw_all := lw_g (lw_at lw_m4 134 rfl) rfl
theorem q930 : (Jvm.Cond.selects "ChantRules" ({ cls := "ChantRules", name := "least", desc := "(I)I" } : Jvm.MethodName) ({ cls := "ChantRules", name := "least", desc := "(I)I" } : Jvm.MethodName)) ∈ lw_all := lw_g (lw_at lw_m4 135 rfl) rfl
theorem q931 : (Jvm.Cond.code ({ cls := "ChantRules", name := "least", desc := "(I)I" } : Jvm.MethodName) prog_1_method_27_code (2 : Nat) (Option.some Jvm.ClassFile.FieldType.int)) ∈ lw_all := lw_g (lw_at lw_m4 136 rfl) rfl
theorem q932 : (Jvm.Cond.methodLink "ChantRules" (249 : Nat) ({ cls := "ChantRules", name := "isWord", desc := "()Z" } : Jvm.MethodName)) ∈ lw_all := lw_g (lw_at lw_m4 137 rfl) rfl
theorem q933 : (Jvm.Cond.privateMethod ({ cls := "ChantRules", name := "isWord", desc := "()Z" } : Jvm.MethodName)) ∈ lw_tbl := lw_at lw_m4 138 rfl
theorem q934 : (Jvm.Cond.instanceMethod ({ cls := "ChantRules", name := "isWord", desc := "()Z" } : Jvm.MethodName)) ∈ lw_all := lw_g (lw_at lw_m4 139 rfl) rfl
theorem q935 : (Jvm.Cond.code ({ cls := "ChantRules", name := "isWord", desc := "()Z" } : Jvm.MethodName) prog_1_method_25_code (3 : Nat) (Option.some Jvm.ClassFile.FieldType.boolean)) ∈ lw_all := lw_g (lw_at lw_m4 140 rfl) rfl
theorem q936 : (Jvm.Cond.methodLink "ChantRules" (231 : Nat) ({ cls := "java/lang/StringBuilder", name := "length", desc := "()I" } : Jvm.MethodName)) ∈ lw_all := lw_g (lw_at lw_m4 141 rfl) rfl
theorem q943 : (Jvm.Cond.methodLink "ChantRules" (234 : Nat) ({ cls := "java/lang/StringBuilder", name := "charAt", desc := "(I)C" } : Jvm.MethodName)) ∈ lw_all := lw_g (lw_at lw_m4 148 rfl) rfl
theorem q969 : (Jvm.Cond.methodLink "ChantRules" (253 : Nat) ({ cls := "ChantRules$Rule", name := "reads", desc := "(Ljava/lang/CharSequence;)LChantRules$Way;" } : Jvm.MethodName)) ∈ lw_all := lw_g (lw_at lw_m4 174 rfl) rfl
theorem q1002 : (Jvm.Cond.fieldLinkNest "ChantRules" (155 : Nat) "ChantRules$Way" "weight" "I" "ChantRules") ∈ lw_tbl := lw_at lw_m4 207 rfl
theorem q1004 : (Jvm.Cond.fieldLinkNest "ChantRules" (238 : Nat) "ChantRules$Way" "song" "LChantRules$Letter;" "ChantRules") ∈ lw_tbl := lw_at lw_m4 209 rfl
theorem q1087 : (Jvm.Cond.methodLink "ChantRules" (257 : Nat) ({ cls := "ChantRules", name := "weightOf", desc := "(LChantRules$Way;)I" } : Jvm.MethodName)) ∈ lw_all := lw_g (lw_at lw_m5 52 rfl) rfl
theorem q1088 : (Jvm.Cond.static ({ cls := "ChantRules", name := "weightOf", desc := "(LChantRules$Way;)I" } : Jvm.MethodName)) ∈ lw_all := lw_g (lw_at lw_m5 53 rfl) rfl
theorem q1089 : (Jvm.Cond.code ({ cls := "ChantRules", name := "weightOf", desc := "(LChantRules$Way;)I" } : Jvm.MethodName) prog_1_method_15_code (1 : Nat) (Option.some Jvm.ClassFile.FieldType.int)) ∈ lw_all := lw_g (lw_at lw_m5 54 rfl) rfl
theorem q1091 : (Jvm.Cond.instanceMethod ({ cls := "ChantRules", name := "sing", desc := "(I)I" } : Jvm.MethodName)) ∈ lw_all := lw_g (lw_at lw_m5 56 rfl) rfl
theorem q1092 : (Jvm.Cond.selects "ChantRules" ({ cls := "ChantRules", name := "sing", desc := "(I)I" } : Jvm.MethodName) ({ cls := "ChantRules", name := "sing", desc := "(I)I" } : Jvm.MethodName)) ∈ lw_all := lw_g (lw_at lw_m5 57 rfl) rfl
theorem q1093 : (Jvm.Cond.code ({ cls := "ChantRules", name := "sing", desc := "(I)I" } : Jvm.MethodName) prog_1_method_28_code (2 : Nat) (Option.some Jvm.ClassFile.FieldType.int)) ∈ lw_all := lw_g (lw_at lw_m5 58 rfl) rfl
theorem q1094 : (Jvm.Cond.methodLink "ChantRules" (261 : Nat) ({ cls := "ChantRules", name := "sung", desc := "(LChantRules$Way;)I" } : Jvm.MethodName)) ∈ lw_all := lw_g (lw_at lw_m5 59 rfl) rfl
theorem q1095 : (Jvm.Cond.privateMethod ({ cls := "ChantRules", name := "sung", desc := "(LChantRules$Way;)I" } : Jvm.MethodName)) ∈ lw_tbl := lw_at lw_m5 60 rfl
theorem q1096 : (Jvm.Cond.instanceMethod ({ cls := "ChantRules", name := "sung", desc := "(LChantRules$Way;)I" } : Jvm.MethodName)) ∈ lw_all := lw_g (lw_at lw_m5 61 rfl) rfl
theorem q1097 : (Jvm.Cond.code ({ cls := "ChantRules", name := "sung", desc := "(LChantRules$Way;)I" } : Jvm.MethodName) prog_1_method_26_code (2 : Nat) (Option.some Jvm.ClassFile.FieldType.int)) ∈ lw_all := lw_g (lw_at lw_m5 62 rfl) rfl
theorem q1098 : (Jvm.Cond.methodLink "ChantRules" (242 : Nat) ({ cls := "ChantRules", name := "textOf", desc := "(LChantRules$Letter;)Ljava/lang/String;" } : Jvm.MethodName)) ∈ lw_all := lw_g (lw_at lw_m5 63 rfl) rfl
theorem q1099 : (Jvm.Cond.static ({ cls := "ChantRules", name := "textOf", desc := "(LChantRules$Letter;)Ljava/lang/String;" } : Jvm.MethodName)) ∈ lw_all := lw_g (lw_at lw_m5 64 rfl) rfl
theorem q1100 : (Jvm.Cond.code ({ cls := "ChantRules", name := "textOf", desc := "(LChantRules$Letter;)Ljava/lang/String;" } : Jvm.MethodName) prog_1_method_14_code (2 : Nat) (Option.some (Jvm.ClassFile.FieldType.object "java/lang/String"))) ∈ lw_all := lw_g (lw_at lw_m5 65 rfl) rfl
theorem q1101 : (Jvm.Cond.methodLink "ChantRules" (149 : Nat) ({ cls := "ChantRules$Letter", name := "writes", desc := "(Ljava/lang/StringBuilder;)V" } : Jvm.MethodName)) ∈ lw_all := lw_g (lw_at lw_m5 66 rfl) rfl
theorem q1107 : (Jvm.Cond.static ({ cls := "ChantRules", name := "sound", desc := "(I)LChantRules$Sound;" } : Jvm.MethodName)) ∈ lw_all := lw_g (lw_at lw_m5 72 rfl) rfl
theorem q1108 : (Jvm.Cond.code ({ cls := "ChantRules", name := "sound", desc := "(I)LChantRules$Sound;" } : Jvm.MethodName) prog_1_method_8_code (1 : Nat) (Option.some (Jvm.ClassFile.FieldType.object "ChantRules$Sound"))) ∈ lw_all := lw_g (lw_at lw_m5 73 rfl) rfl
theorem q1109 : (Jvm.Cond.fieldLink "ChantRules" (84 : Nat) "ChantRules$Sound" "A" "LChantRules$Sound;") ∈ lw_all := lw_g (lw_at lw_m5 74 rfl) rfl
theorem q1111 : (Jvm.Cond.fieldLink "ChantRules" (88 : Nat) "ChantRules$Sound" "B" "LChantRules$Sound;") ∈ lw_all := lw_g (lw_at lw_m5 76 rfl) rfl
theorem q1113 : (Jvm.Cond.fieldLink "ChantRules" (91 : Nat) "ChantRules$Sound" "C" "LChantRules$Sound;") ∈ lw_all := lw_g (lw_at lw_m5 78 rfl) rfl
theorem q1115 : (Jvm.Cond.fieldLink "ChantRules" (94 : Nat) "ChantRules$Sound" "D" "LChantRules$Sound;") ∈ lw_all := lw_g (lw_at lw_m5 80 rfl) rfl
theorem q1117 : (Jvm.Cond.fieldLink "ChantRules" (97 : Nat) "ChantRules$Sound" "NO_SOUND" "LChantRules$Sound;") ∈ lw_all := lw_g (lw_at lw_m5 82 rfl) rfl
theorem q1186 : (Jvm.Cond.methodLink "ChantRules" (145 : Nat) ({ cls := "java/lang/StringBuilder", name := "toString", desc := "()Ljava/lang/String;" } : Jvm.MethodName)) ∈ lw_all := lw_g (lw_at lw_m5 151 rfl) rfl
theorem q1236 : (Jvm.Cond.methodLink "ChantRules" (246 : Nat) ({ cls := "java/lang/String", name := "length", desc := "()I" } : Jvm.MethodName)) ∈ lw_all := lw_g (lw_at lw_m5 201 rfl) rfl
theorem q1238 : (Jvm.Cond.instanceMethod ({ cls := "ChantRules", name := "both", desc := "()I" } : Jvm.MethodName)) ∈ lw_all := lw_g (lw_at lw_m5 203 rfl) rfl
theorem q1239 : (Jvm.Cond.selects "ChantRules" ({ cls := "ChantRules", name := "both", desc := "()I" } : Jvm.MethodName) ({ cls := "ChantRules", name := "both", desc := "()I" } : Jvm.MethodName)) ∈ lw_all := lw_g (lw_at lw_m5 204 rfl) rfl
theorem q1240 : (Jvm.Cond.code ({ cls := "ChantRules", name := "both", desc := "()I" } : Jvm.MethodName) prog_1_method_29_code (1 : Nat) (Option.some Jvm.ClassFile.FieldType.int)) ∈ lw_all := lw_g (lw_at lw_m5 205 rfl) rfl
theorem q1241 : (Jvm.Cond.methodLink "ChantRules" (264 : Nat) ({ cls := "ChantRules$Choir", name := "composed", desc := "([LChantRules$Test;)LChantRules$Composed;" } : Jvm.MethodName)) ∈ lw_all := lw_g (lw_at lw_m5 206 rfl) rfl
theorem q1298 : (Jvm.Cond.methodLink "ChantRules" (268 : Nat) ({ cls := "ChantRules$Composed", name := "reads", desc := "(Ljava/lang/CharSequence;)LChantRules$Way;" } : Jvm.MethodName)) ∈ lw_all := lw_g (lw_at lw_m6 23 rfl) rfl
theorem q1302 : (Jvm.Cond.instanceMethod ({ cls := "ChantRules", name := "bothAgain", desc := "()I" } : Jvm.MethodName)) ∈ lw_all := lw_g (lw_at lw_m6 27 rfl) rfl
theorem q1303 : (Jvm.Cond.selects "ChantRules" ({ cls := "ChantRules", name := "bothAgain", desc := "()I" } : Jvm.MethodName) ({ cls := "ChantRules", name := "bothAgain", desc := "()I" } : Jvm.MethodName)) ∈ lw_all := lw_g (lw_at lw_m6 28 rfl) rfl
theorem q1304 : (Jvm.Cond.code ({ cls := "ChantRules", name := "bothAgain", desc := "()I" } : Jvm.MethodName) prog_1_method_30_code (1 : Nat) (Option.some Jvm.ClassFile.FieldType.int)) ∈ lw_all := lw_g (lw_at lw_m6 29 rfl) rfl
theorem q1305 : (Jvm.Cond.methodLink "ChantRules" (271 : Nat) ({ cls := "ChantRules$Choir", name := "bothAgain", desc := "(Ljava/lang/CharSequence;)I" } : Jvm.MethodName)) ∈ lw_all := lw_g (lw_at lw_m6 30 rfl) rfl
theorem q1354 : (Jvm.Cond.instanceMethod ({ cls := "ChantRules", name := "singBoth", desc := "()I" } : Jvm.MethodName)) ∈ lw_all := lw_g (lw_at lw_m6 79 rfl) rfl
theorem q1355 : (Jvm.Cond.selects "ChantRules" ({ cls := "ChantRules", name := "singBoth", desc := "()I" } : Jvm.MethodName) ({ cls := "ChantRules", name := "singBoth", desc := "()I" } : Jvm.MethodName)) ∈ lw_all := lw_g (lw_at lw_m6 80 rfl) rfl
theorem q1356 : (Jvm.Cond.code ({ cls := "ChantRules", name := "singBoth", desc := "()I" } : Jvm.MethodName) prog_1_method_31_code (1 : Nat) (Option.some Jvm.ClassFile.FieldType.int)) ∈ lw_all := lw_g (lw_at lw_m6 81 rfl) rfl
theorem q1358 : (Jvm.Cond.instanceMethod ({ cls := "ChantRules", name := "composed", desc := "(I)I" } : Jvm.MethodName)) ∈ lw_all := lw_g (lw_at lw_m6 83 rfl) rfl
theorem q1359 : (Jvm.Cond.selects "ChantRules" ({ cls := "ChantRules", name := "composed", desc := "(I)I" } : Jvm.MethodName) ({ cls := "ChantRules", name := "composed", desc := "(I)I" } : Jvm.MethodName)) ∈ lw_all := lw_g (lw_at lw_m6 84 rfl) rfl
theorem q1360 : (Jvm.Cond.code ({ cls := "ChantRules", name := "composed", desc := "(I)I" } : Jvm.MethodName) prog_1_method_32_code (2 : Nat) (Option.some Jvm.ClassFile.FieldType.int)) ∈ lw_all := lw_g (lw_at lw_m6 85 rfl) rfl
theorem q1361 : (Jvm.Cond.methodLink "ChantRules" (275 : Nat) ({ cls := "ChantRules$Composed", name := "value", desc := "(I)I" } : Jvm.MethodName)) ∈ lw_all := lw_g (lw_at lw_m6 86 rfl) rfl
theorem q1377 : (Jvm.Cond.instanceMethod ({ cls := "ChantRules", name := "cheapest", desc := "(I)I" } : Jvm.MethodName)) ∈ lw_all := lw_g (lw_at lw_m6 102 rfl) rfl
theorem q1378 : (Jvm.Cond.selects "ChantRules" ({ cls := "ChantRules", name := "cheapest", desc := "(I)I" } : Jvm.MethodName) ({ cls := "ChantRules", name := "cheapest", desc := "(I)I" } : Jvm.MethodName)) ∈ lw_all := lw_g (lw_at lw_m6 103 rfl) rfl
theorem q1379 : (Jvm.Cond.code ({ cls := "ChantRules", name := "cheapest", desc := "(I)I" } : Jvm.MethodName) prog_1_method_33_code (2 : Nat) (Option.some Jvm.ClassFile.FieldType.int)) ∈ lw_all := lw_g (lw_at lw_m6 104 rfl) rfl
theorem q1380 : (Jvm.Cond.methodLink "ChantRules" (278 : Nat) ({ cls := "ChantRules$Rule", name := "leastOf", desc := "(Z)I" } : Jvm.MethodName)) ∈ lw_all := lw_g (lw_at lw_m6 105 rfl) rfl
theorem q1389 : (Jvm.Cond.instanceMethod ({ cls := "ChantRules", name := "shortest", desc := "(I)I" } : Jvm.MethodName)) ∈ lw_all := lw_g (lw_at lw_m6 114 rfl) rfl
theorem q1390 : (Jvm.Cond.selects "ChantRules" ({ cls := "ChantRules", name := "shortest", desc := "(I)I" } : Jvm.MethodName) ({ cls := "ChantRules", name := "shortest", desc := "(I)I" } : Jvm.MethodName)) ∈ lw_all := lw_g (lw_at lw_m6 115 rfl) rfl
theorem q1391 : (Jvm.Cond.code ({ cls := "ChantRules", name := "shortest", desc := "(I)I" } : Jvm.MethodName) prog_1_method_34_code (2 : Nat) (Option.some Jvm.ClassFile.FieldType.int)) ∈ lw_all := lw_g (lw_at lw_m6 116 rfl) rfl
theorem q1393 : (Jvm.Cond.instanceMethod ({ cls := "ChantRules", name := "breathes", desc := "(I)I" } : Jvm.MethodName)) ∈ lw_all := lw_g (lw_at lw_m6 118 rfl) rfl
theorem q1394 : (Jvm.Cond.selects "ChantRules" ({ cls := "ChantRules", name := "breathes", desc := "(I)I" } : Jvm.MethodName) ({ cls := "ChantRules", name := "breathes", desc := "(I)I" } : Jvm.MethodName)) ∈ lw_all := lw_g (lw_at lw_m6 119 rfl) rfl
theorem q1395 : (Jvm.Cond.code ({ cls := "ChantRules", name := "breathes", desc := "(I)I" } : Jvm.MethodName) prog_1_method_35_code (2 : Nat) (Option.some Jvm.ClassFile.FieldType.int)) ∈ lw_all := lw_g (lw_at lw_m6 120 rfl) rfl
theorem q1396 : (Jvm.Cond.methodLink "ChantRules" (282 : Nat) ({ cls := "ChantRules$Rule", name := "breathes", desc := "()Z" } : Jvm.MethodName)) ∈ lw_all := lw_g (lw_at lw_m6 121 rfl) rfl
theorem q1410 : (Jvm.Cond.instanceMethod ({ cls := "ChantRules", name := "ranked", desc := "(II)I" } : Jvm.MethodName)) ∈ lw_all := lw_g (lw_at lw_m6 135 rfl) rfl
theorem q1411 : (Jvm.Cond.selects "ChantRules" ({ cls := "ChantRules", name := "ranked", desc := "(II)I" } : Jvm.MethodName) ({ cls := "ChantRules", name := "ranked", desc := "(II)I" } : Jvm.MethodName)) ∈ lw_all := lw_g (lw_at lw_m6 136 rfl) rfl
theorem q1412 : (Jvm.Cond.code ({ cls := "ChantRules", name := "ranked", desc := "(II)I" } : Jvm.MethodName) prog_1_method_36_code (3 : Nat) (Option.some Jvm.ClassFile.FieldType.int)) ∈ lw_all := lw_g (lw_at lw_m6 137 rfl) rfl
theorem q1413 : (Jvm.Cond.methodLink "ChantRules" (285 : Nat) ({ cls := "ChantRules$Rule", name := "ranked", desc := "(I)I" } : Jvm.MethodName)) ∈ lw_all := lw_g (lw_at lw_m6 138 rfl) rfl
theorem q1422 : (Jvm.Cond.instanceMethod ({ cls := "ChantRules", name := "append", desc := "(I)I" } : Jvm.MethodName)) ∈ lw_all := lw_g (lw_at lw_m6 147 rfl) rfl
theorem q1423 : (Jvm.Cond.selects "ChantRules" ({ cls := "ChantRules", name := "append", desc := "(I)I" } : Jvm.MethodName) ({ cls := "ChantRules", name := "append", desc := "(I)I" } : Jvm.MethodName)) ∈ lw_all := lw_g (lw_at lw_m6 148 rfl) rfl
theorem q1424 : (Jvm.Cond.code ({ cls := "ChantRules", name := "append", desc := "(I)I" } : Jvm.MethodName) prog_1_method_37_code (2 : Nat) (Option.some Jvm.ClassFile.FieldType.int)) ∈ lw_all := lw_g (lw_at lw_m6 149 rfl) rfl
theorem q1425 : (Jvm.Cond.methodLink "ChantRules" (134 : Nat) ({ cls := "java/lang/StringBuilder", name := "append", desc := "(C)Ljava/lang/StringBuilder;" } : Jvm.MethodName)) ∈ lw_all := lw_g (lw_at lw_m6 150 rfl) rfl
theorem q1427 : (Jvm.Cond.instanceMethod ({ cls := "ChantRules", name := "clear", desc := "()I" } : Jvm.MethodName)) ∈ lw_all := lw_g (lw_at lw_m6 152 rfl) rfl
theorem q1428 : (Jvm.Cond.selects "ChantRules" ({ cls := "ChantRules", name := "clear", desc := "()I" } : Jvm.MethodName) ({ cls := "ChantRules", name := "clear", desc := "()I" } : Jvm.MethodName)) ∈ lw_all := lw_g (lw_at lw_m6 153 rfl) rfl
theorem q1429 : (Jvm.Cond.code ({ cls := "ChantRules", name := "clear", desc := "()I" } : Jvm.MethodName) prog_1_method_38_code (2 : Nat) (Option.some Jvm.ClassFile.FieldType.int)) ∈ lw_all := lw_g (lw_at lw_m6 154 rfl) rfl
theorem q1430 : (Jvm.Cond.methodLink "ChantRules" (288 : Nat) ({ cls := "java/lang/StringBuilder", name := "setLength", desc := "(I)V" } : Jvm.MethodName)) ∈ lw_all := lw_g (lw_at lw_m6 155 rfl) rfl
theorem q1451 : (Jvm.Cond.instanceMethod ({ cls := "ChantRules", name := "run", desc := "()I" } : Jvm.MethodName)) ∈ lw_all := lw_g (lw_at lw_m6 176 rfl) rfl
theorem q1452 : (Jvm.Cond.selects "ChantRules" ({ cls := "ChantRules", name := "run", desc := "()I" } : Jvm.MethodName) ({ cls := "ChantRules", name := "run", desc := "()I" } : Jvm.MethodName)) ∈ lw_all := lw_g (lw_at lw_m6 177 rfl) rfl
theorem q1453 : (Jvm.Cond.codeWith ({ cls := "ChantRules", name := "run", desc := "()I" } : Jvm.MethodName) prog_1_method_40_code (7 : Nat) (Option.some Jvm.ClassFile.FieldType.int) [((0 : Nat), (67 : Nat), (78 : Nat), (324 : Nat)), ((0 : Nat), (67 : Nat), (98 : Nat), (60 : Nat)), ((0 : Nat), (67 : Nat), (115 : Nat), (0 : Nat)), ((78 : Nat), (88 : Nat), (115 : Nat), (0 : Nat)), ((98 : Nat), (105 : Nat), (115 : Nat), (0 : Nat)), ((115 : Nat), (117 : Nat), (115 : Nat), (0 : Nat))]) ∈ lw_all := lw_g (lw_at lw_m6 178 rfl) rfl
theorem q1454 : (Jvm.Cond.classLink "ChantRules" (324 : Nat) "ChantRules$Wrong") ∈ lw_all := lw_g (lw_at lw_m6 179 rfl) rfl
theorem q1455 : (Jvm.Cond.classLink "ChantRules" (305 : Nat) "ChantRules$Reader") ∈ lw_all := lw_g (lw_at lw_m6 180 rfl) rfl
theorem q1457 : (Jvm.Cond.methodLinkNest "ChantRules" (307 : Nat) ({ cls := "ChantRules$Reader", name := "<init>", desc := "(LChantRules;)V" } : Jvm.MethodName) "ChantRules") ∈ lw_tbl := lw_at lw_m6 182 rfl
theorem q1468 : (Jvm.Cond.methodLink "ChantRules" (310 : Nat) ({ cls := "ChantRules$Reader", name := "commands", desc := "()Ljava/util/LinkedList;" } : Jvm.MethodName)) ∈ lw_all := lw_g (lw_at lw_m6 193 rfl) rfl
theorem q1576 : (Jvm.Cond.fieldLinkNest "ChantRules" (326 : Nat) "ChantRules$Wrong" "at" "I" "ChantRules") ∈ lw_tbl := lw_at lw_m7 61 rfl
theorem q1667 : (Jvm.Cond.methodLink "ChantRules" (314 : Nat) ({ cls := "java/util/LinkedList", name := "isEmpty", desc := "()Z" } : Jvm.MethodName)) ∈ lw_all := lw_g (lw_at lw_m7 152 rfl) rfl
theorem q1681 : (Jvm.Cond.methodLink "ChantRules" (319 : Nat) ({ cls := "java/util/LinkedList", name := "removeFirst", desc := "()Ljava/lang/Object;" } : Jvm.MethodName)) ∈ lw_all := lw_g (lw_at lw_m7 166 rfl) rfl
theorem q1689 : (Jvm.Cond.classLink "ChantRules" (293 : Nat) "ChantRules$Command") ∈ lw_all := lw_g (lw_at lw_m7 174 rfl) rfl
theorem q1690 : (Jvm.Cond.methodLink "ChantRules" (320 : Nat) ({ cls := "ChantRules", name := "carryOut", desc := "(LChantRules$Command;LChantRules$Choir;I)V" } : Jvm.MethodName)) ∈ lw_all := lw_g (lw_at lw_m7 175 rfl) rfl
theorem q1691 : (Jvm.Cond.static ({ cls := "ChantRules", name := "carryOut", desc := "(LChantRules$Command;LChantRules$Choir;I)V" } : Jvm.MethodName)) ∈ lw_all := lw_g (lw_at lw_m7 176 rfl) rfl
theorem q1692 : (Jvm.Cond.codeWith ({ cls := "ChantRules", name := "carryOut", desc := "(LChantRules$Command;LChantRules$Choir;I)V" } : Jvm.MethodName) prog_1_method_39_code (4 : Nat) (Option.none : Option Jvm.ClassFile.FieldType) [((0 : Nat), (18 : Nat), (21 : Nat), (60 : Nat))]) ∈ lw_all := lw_g (lw_at lw_m7 177 rfl) rfl
theorem q1693 : (Jvm.Cond.methodLink "ChantRules" (292 : Nat) ({ cls := "ChantRules$Command", name := "isDone", desc := "(LChantRules$Choir;)Z" } : Jvm.MethodName)) ∈ lw_all := lw_g (lw_at lw_m7 178 rfl) rfl
theorem q1712 : (Jvm.Cond.methodLink "ChantRules" (298 : Nat) ({ cls := "ChantRules", name := "refuse", desc := "(ZII)V" } : Jvm.MethodName)) ∈ lw_all := lw_g (lw_at lw_m7 197 rfl) rfl
theorem q1713 : (Jvm.Cond.methodLink "ChantRules" (302 : Nat) ({ cls := "ChantRules$Refused", name := "<init>", desc := "(IILChantRules$Refused;)V" } : Jvm.MethodName)) ∈ lw_all := lw_g (lw_at lw_m7 198 rfl) rfl
theorem q1715 : (Jvm.Cond.instanceMethod ({ cls := "ChantRules", name := "tell", desc := "(II)I" } : Jvm.MethodName)) ∈ lw_all := lw_g (lw_at lw_m7 200 rfl) rfl
theorem q1716 : (Jvm.Cond.selects "ChantRules" ({ cls := "ChantRules", name := "tell", desc := "(II)I" } : Jvm.MethodName) ({ cls := "ChantRules", name := "tell", desc := "(II)I" } : Jvm.MethodName)) ∈ lw_all := lw_g (lw_at lw_m7 201 rfl) rfl
theorem q1717 : (Jvm.Cond.code ({ cls := "ChantRules", name := "tell", desc := "(II)I" } : Jvm.MethodName) prog_1_method_41_code (3 : Nat) (Option.some Jvm.ClassFile.FieldType.int)) ∈ lw_all := lw_g (lw_at lw_m7 202 rfl) rfl
theorem q1718 : (Jvm.Cond.methodLink "ChantRules" (333 : Nat) ({ cls := "java/util/ArrayList", name := "get", desc := "(I)Ljava/lang/Object;" } : Jvm.MethodName)) ∈ lw_all := lw_g (lw_at lw_m7 203 rfl) rfl
theorem q1719 : (Jvm.Cond.classLink "ChantRules" (111 : Nat) "ChantRules$Arc") ∈ lw_all := lw_g (lw_at lw_m7 204 rfl) rfl
theorem q1720 : (Jvm.Cond.methodLink "ChantRules" (339 : Nat) ({ cls := "ChantRules", name := "textOf", desc := "(LChantRules$Arc;)Ljava/lang/String;" } : Jvm.MethodName)) ∈ lw_all := lw_g (lw_at lw_m7 205 rfl) rfl
theorem q1721 : (Jvm.Cond.static ({ cls := "ChantRules", name := "textOf", desc := "(LChantRules$Arc;)Ljava/lang/String;" } : Jvm.MethodName)) ∈ lw_all := lw_g (lw_at lw_m7 206 rfl) rfl
theorem q1722 : (Jvm.Cond.code ({ cls := "ChantRules", name := "textOf", desc := "(LChantRules$Arc;)Ljava/lang/String;" } : Jvm.MethodName) prog_1_method_13_code (2 : Nat) (Option.some (Jvm.ClassFile.FieldType.object "java/lang/String"))) ∈ lw_all := lw_g (lw_at lw_m7 207 rfl) rfl
theorem q1723 : (Jvm.Cond.methodLink "ChantRules" (130 : Nat) ({ cls := "java/lang/StringBuilder", name := "append", desc := "(I)Ljava/lang/StringBuilder;" } : Jvm.MethodName)) ∈ lw_all := lw_g (lw_at lw_m7 208 rfl) rfl
theorem q1748 : (Jvm.Cond.methodLink "ChantRules" (137 : Nat) ({ cls := "ChantRules", name := "sound", desc := "(I)LChantRules$Sound;" } : Jvm.MethodName)) ∈ lw_all := lw_g (lw_at lw_m7 233 rfl) rfl
theorem q1749 : (Jvm.Cond.methodLink "ChantRules" (141 : Nat) ({ cls := "ChantRules$Sound", name := "sign", desc := "()C" } : Jvm.MethodName)) ∈ lw_all := lw_g (lw_at lw_m7 234 rfl) rfl
theorem q1751 : (Jvm.Cond.instanceMethod ({ cls := "ChantRules", name := "tellStates", desc := "(I)I" } : Jvm.MethodName)) ∈ lw_all := lw_g (lw_at lw_m7 236 rfl) rfl
theorem q1752 : (Jvm.Cond.selects "ChantRules" ({ cls := "ChantRules", name := "tellStates", desc := "(I)I" } : Jvm.MethodName) ({ cls := "ChantRules", name := "tellStates", desc := "(I)I" } : Jvm.MethodName)) ∈ lw_all := lw_g (lw_at lw_m7 237 rfl) rfl
theorem q1753 : (Jvm.Cond.code ({ cls := "ChantRules", name := "tellStates", desc := "(I)I" } : Jvm.MethodName) prog_1_method_42_code (2 : Nat) (Option.some Jvm.ClassFile.FieldType.int)) ∈ lw_all := lw_g (lw_at lw_m7 238 rfl) rfl
theorem q1754 : (Jvm.Cond.methodLink "ChantRules" (342 : Nat) ({ cls := "ChantRules$Rule", name := "text", desc := "()Ljava/lang/String;" } : Jvm.MethodName)) ∈ lw_all := lw_g (lw_at lw_m7 239 rfl) rfl
theorem q1797 : (Jvm.Cond.instanceMethod ({ cls := "ChantRules", name := "character", desc := "(I)I" } : Jvm.MethodName)) ∈ lw_all := lw_g (lw_at lw_m8 42 rfl) rfl
theorem q1798 : (Jvm.Cond.selects "ChantRules" ({ cls := "ChantRules", name := "character", desc := "(I)I" } : Jvm.MethodName) ({ cls := "ChantRules", name := "character", desc := "(I)I" } : Jvm.MethodName)) ∈ lw_all := lw_g (lw_at lw_m8 43 rfl) rfl
theorem q1799 : (Jvm.Cond.code ({ cls := "ChantRules", name := "character", desc := "(I)I" } : Jvm.MethodName) prog_1_method_43_code (2 : Nat) (Option.some Jvm.ClassFile.FieldType.int)) ∈ lw_all := lw_g (lw_at lw_m8 44 rfl) rfl
theorem q1800 : (Jvm.Cond.methodLink "ChantRules" (344 : Nat) ({ cls := "java/lang/String", name := "charAt", desc := "(I)C" } : Jvm.MethodName)) ∈ lw_all := lw_g (lw_at lw_m8 45 rfl) rfl
theorem q1802 : (Jvm.Cond.instanceMethod ({ cls := "ChantRules", name := "reason", desc := "(ZZ)I" } : Jvm.MethodName)) ∈ lw_all := lw_g (lw_at lw_m8 47 rfl) rfl
theorem q1803 : (Jvm.Cond.selects "ChantRules" ({ cls := "ChantRules", name := "reason", desc := "(ZZ)I" } : Jvm.MethodName) ({ cls := "ChantRules", name := "reason", desc := "(ZZ)I" } : Jvm.MethodName)) ∈ lw_all := lw_g (lw_at lw_m8 48 rfl) rfl
theorem q1804 : (Jvm.Cond.code ({ cls := "ChantRules", name := "reason", desc := "(ZZ)I" } : Jvm.MethodName) prog_1_method_44_code (3 : Nat) (Option.some Jvm.ClassFile.FieldType.int)) ∈ lw_all := lw_g (lw_at lw_m8 49 rfl) rfl
theorem q1806 : (Jvm.Cond.instanceMethod ({ cls := "ChantRules", name := "account", desc := "(I)I" } : Jvm.MethodName)) ∈ lw_all := lw_g (lw_at lw_m8 51 rfl) rfl
theorem q1807 : (Jvm.Cond.selects "ChantRules" ({ cls := "ChantRules", name := "account", desc := "(I)I" } : Jvm.MethodName) ({ cls := "ChantRules", name := "account", desc := "(I)I" } : Jvm.MethodName)) ∈ lw_all := lw_g (lw_at lw_m8 52 rfl) rfl
theorem q1808 : (Jvm.Cond.code ({ cls := "ChantRules", name := "account", desc := "(I)I" } : Jvm.MethodName) prog_1_method_45_code (2 : Nat) (Option.some Jvm.ClassFile.FieldType.int)) ∈ lw_all := lw_g (lw_at lw_m8 53 rfl) rfl
theorem q1809 : (Jvm.Cond.methodLink "ChantRules" (348 : Nat) ({ cls := "java/util/ArrayList", name := "size", desc := "()I" } : Jvm.MethodName)) ∈ lw_all := lw_g (lw_at lw_m8 54 rfl) rfl
theorem q1810 : (Jvm.Cond.methodLink "ChantRules" (349 : Nat) ({ cls := "ChantRules$Rule", name := "endMany", desc := "()I" } : Jvm.MethodName)) ∈ lw_all := lw_g (lw_at lw_m8 55 rfl) rfl
theorem q1811 : (Jvm.Cond.methodLink "ChantRules" (352 : Nat) ({ cls := "ChantRules$Choir", name := "weights", desc := "()I" } : Jvm.MethodName)) ∈ lw_all := lw_g (lw_at lw_m8 56 rfl) rfl
theorem q1819 : (Jvm.Cond.methodLink "ChantRules" (355 : Nat) ({ cls := "ChantRules$Rule", name := "so", desc := "(LChantRules$Test;)I" } : Jvm.MethodName)) ∈ lw_all := lw_g (lw_at lw_m8 64 rfl) rfl
theorem q1826 : (Jvm.Cond.instanceMethod ({ cls := "ChantRules", name := "isBalanced", desc := "()I" } : Jvm.MethodName)) ∈ lw_all := lw_g (lw_at lw_m8 71 rfl) rfl
theorem q1827 : (Jvm.Cond.selects "ChantRules" ({ cls := "ChantRules", name := "isBalanced", desc := "()I" } : Jvm.MethodName) ({ cls := "ChantRules", name := "isBalanced", desc := "()I" } : Jvm.MethodName)) ∈ lw_all := lw_g (lw_at lw_m8 72 rfl) rfl
theorem q1828 : (Jvm.Cond.code ({ cls := "ChantRules", name := "isBalanced", desc := "()I" } : Jvm.MethodName) prog_1_method_46_code (1 : Nat) (Option.some Jvm.ClassFile.FieldType.int)) ∈ lw_all := lw_g (lw_at lw_m8 73 rfl) rfl
theorem q1829 : (Jvm.Cond.methodLink "ChantRules" (367 : Nat) ({ cls := "ChantRules$Choir", name := "isBalanced", desc := "([LChantRules$Test;)Z" } : Jvm.MethodName)) ∈ lw_all := lw_g (lw_at lw_m8 74 rfl) rfl
theorem q1851 : (Jvm.Cond.instanceMethod ({ cls := "ChantRules", name := "meanWeight", desc := "()D" } : Jvm.MethodName)) ∈ lw_all := lw_g (lw_at lw_m8 96 rfl) rfl
theorem q1852 : (Jvm.Cond.selects "ChantRules" ({ cls := "ChantRules", name := "meanWeight", desc := "()D" } : Jvm.MethodName) ({ cls := "ChantRules", name := "meanWeight", desc := "()D" } : Jvm.MethodName)) ∈ lw_all := lw_g (lw_at lw_m8 97 rfl) rfl
theorem q1853 : (Jvm.Cond.code ({ cls := "ChantRules", name := "meanWeight", desc := "()D" } : Jvm.MethodName) prog_1_method_47_code (2 : Nat) (Option.some Jvm.ClassFile.FieldType.double)) ∈ lw_all := lw_g (lw_at lw_m8 98 rfl) rfl
theorem q1854 : (Jvm.Cond.methodLink "ChantRules" (371 : Nat) ({ cls := "ChantRules$Choir", name := "arcs", desc := "()I" } : Jvm.MethodName)) ∈ lw_all := lw_g (lw_at lw_m8 99 rfl) rfl
theorem q1856 : (Jvm.Cond.instanceMethod ({ cls := "ChantRules", name := "usefulShare", desc := "()F" } : Jvm.MethodName)) ∈ lw_all := lw_g (lw_at lw_m8 101 rfl) rfl
theorem q1857 : (Jvm.Cond.selects "ChantRules" ({ cls := "ChantRules", name := "usefulShare", desc := "()F" } : Jvm.MethodName) ({ cls := "ChantRules", name := "usefulShare", desc := "()F" } : Jvm.MethodName)) ∈ lw_all := lw_g (lw_at lw_m8 102 rfl) rfl
theorem q1858 : (Jvm.Cond.code ({ cls := "ChantRules", name := "usefulShare", desc := "()F" } : Jvm.MethodName) prog_1_method_48_code (2 : Nat) (Option.some Jvm.ClassFile.FieldType.float)) ∈ lw_all := lw_g (lw_at lw_m8 103 rfl) rfl
theorem q1859 : (Jvm.Cond.methodLink "ChantRules" (373 : Nat) ({ cls := "ChantRules$Rule", name := "usefulMany", desc := "()I" } : Jvm.MethodName)) ∈ lw_all := lw_g (lw_at lw_m8 104 rfl) rfl
theorem q1863 : (Jvm.Cond.instanceMethod ({ cls := "ChantRules", name := "undo", desc := "()I" } : Jvm.MethodName)) ∈ lw_all := lw_g (lw_at lw_m8 108 rfl) rfl
theorem q1864 : (Jvm.Cond.selects "ChantRules" ({ cls := "ChantRules", name := "undo", desc := "()I" } : Jvm.MethodName) ({ cls := "ChantRules", name := "undo", desc := "()I" } : Jvm.MethodName)) ∈ lw_all := lw_g (lw_at lw_m8 109 rfl) rfl
theorem q1865 : (Jvm.Cond.code ({ cls := "ChantRules", name := "undo", desc := "()I" } : Jvm.MethodName) prog_1_method_49_code (1 : Nat) (Option.some Jvm.ClassFile.FieldType.int)) ∈ lw_all := lw_g (lw_at lw_m8 110 rfl) rfl
theorem q1866 : (Jvm.Cond.methodLink "ChantRules" (376 : Nat) ({ cls := "java/util/ArrayDeque", name := "isEmpty", desc := "()Z" } : Jvm.MethodName)) ∈ lw_all := lw_g (lw_at lw_m8 111 rfl) rfl
theorem q1870 : (Jvm.Cond.methodLink "ChantRules" (377 : Nat) ({ cls := "java/util/ArrayDeque", name := "removeLast", desc := "()Ljava/lang/Object;" } : Jvm.MethodName)) ∈ lw_all := lw_g (lw_at lw_m8 115 rfl) rfl
theorem q1882 : (Jvm.Cond.instanceMethod ({ cls := "ChantRules", name := "save", desc := "()I" } : Jvm.MethodName)) ∈ lw_all := lw_g (lw_at lw_m8 127 rfl) rfl
theorem q1883 : (Jvm.Cond.selects "ChantRules" ({ cls := "ChantRules", name := "save", desc := "()I" } : Jvm.MethodName) ({ cls := "ChantRules", name := "save", desc := "()I" } : Jvm.MethodName)) ∈ lw_all := lw_g (lw_at lw_m8 128 rfl) rfl
theorem q1884 : (Jvm.Cond.code ({ cls := "ChantRules", name := "save", desc := "()I" } : Jvm.MethodName) prog_1_method_50_code (1 : Nat) (Option.some Jvm.ClassFile.FieldType.int)) ∈ lw_all := lw_g (lw_at lw_m8 129 rfl) rfl
theorem q1886 : (Jvm.Cond.instanceMethod ({ cls := "ChantRules", name := "restore", desc := "()I" } : Jvm.MethodName)) ∈ lw_all := lw_g (lw_at lw_m8 131 rfl) rfl
theorem q1887 : (Jvm.Cond.selects "ChantRules" ({ cls := "ChantRules", name := "restore", desc := "()I" } : Jvm.MethodName) ({ cls := "ChantRules", name := "restore", desc := "()I" } : Jvm.MethodName)) ∈ lw_all := lw_g (lw_at lw_m8 132 rfl) rfl
theorem q1888 : (Jvm.Cond.code ({ cls := "ChantRules", name := "restore", desc := "()I" } : Jvm.MethodName) prog_1_method_51_code (1 : Nat) (Option.some Jvm.ClassFile.FieldType.int)) ∈ lw_all := lw_g (lw_at lw_m8 133 rfl) rfl
theorem q1889 : (Jvm.Cond.methodLink "ChantRules" (383 : Nat) ({ cls := "java/util/ArrayDeque", name := "clear", desc := "()V" } : Jvm.MethodName)) ∈ lw_all := lw_g (lw_at lw_m8 134 rfl) rfl
theorem q2366 : (Jvm.Cond.castable "ChantRules" "java/lang/Object") ∈ lw_tbl := lw_at lw_m10 131 rfl
theorem in_X0 : ∀ w ∈ wsX00, w ∈ lw_all := lw_in wsX00 [310, 312, 314, 316, 318, 320, 322, 324, 326, 328] (by decide +kernel) (by decide +kernel)
/-! ChantRules$Choir -/
set_option maxRecDepth 100000
def RX1 : String := "ChantRules$Choir"
def TX1 : u_T := fun k => match k with
  | 0 => ("ChantRules$Choir", "rules", "[LChantRules$Rule;", true)
  | 1 => ("ChantRules$Choir", "told", "I", false)
  | 2 => ("ChantRules$Choir", "dropped", "I", false)
  | _ => ("ChantRules$Choir", "turns", "I", false)
def tyX1 : Nat → FieldType := fun k => match k with
  | 0 => .array (.object "ChantRules$Rule")
  | 1 => .int
  | 2 => .int
  | _ => .int
abbrev wsX10 : List Cond := u_ws RX1 TX1 4
theorem nmX1 : ∀ a, a < 4 → ∀ b, b < 4 → a ≠ b → (TX1 a).2.1 ≠ (TX1 b).2.1 := by decide +kernel
theorem tyX1_ok : ∀ k, k < 4 → parseFieldDescriptor (TX1 k).2.2.1 = some (tyX1 k) := by decide +kernel
abbrev cX1_init : ByteArray := prog_4_method_1_code
def yX1_init : MethodName := ⟨RX1, "<init>", "()V"⟩
def dkwX1_init_1 : List UInt8 := [187, 0, 9, 89, 183, 0, 17, 83, 132, 1, 1, 167, 255, 235, 177]
abbrev dktX1_init_1 : List UInt8 := dkwX1_init_1 ++ []
def dkwX1_init_0 : List UInt8 := [42, 183, 0, 3, 42, 5, 189, 0, 9, 181, 0, 11, 3, 60, 27, 5, 162, 0, 22, 42, 180, 0, 11, 27]
abbrev dktX1_init_0 : List UInt8 := dkwX1_init_0 ++ dktX1_init_1
theorem dksX1_init_0 : cX1_init.data.toList.drop 0 = dktX1_init_0 := by decide +kernel
theorem dksX1_init_1 : cX1_init.data.toList.drop 24 = dktX1_init_1 := dk_seg dksX1_init_0 24 rfl rfl
theorem dX1_init_0 : decode cX1_init 0 = .ok (.aload_n 0, 1) := dk_42 (dk_at dksX1_init_0 0 rfl rfl)
theorem dX1_init_1 : decode cX1_init 1 = .ok (.invokespecial 3, 3) := dk_183 0 3 (dk_at dksX1_init_0 1 rfl rfl)
theorem dX1_init_4 : decode cX1_init 4 = .ok (.aload_n 0, 1) := dk_42 (dk_at dksX1_init_0 4 rfl rfl)
theorem dX1_init_5 : decode cX1_init 5 = .ok (.iconst 2, 1) := dk_5 (dk_at dksX1_init_0 5 rfl rfl)
theorem dX1_init_6 : decode cX1_init 6 = .ok (.anewarray 9, 3) := dk_189 0 9 (dk_at dksX1_init_0 6 rfl rfl)
theorem dX1_init_9 : decode cX1_init 9 = .ok (.putfield 11, 3) := dk_181 0 11 (dk_at dksX1_init_0 9 rfl rfl)
theorem dX1_init_12 : decode cX1_init 12 = .ok (.iconst 0, 1) := dk_3 (dk_at dksX1_init_0 12 rfl rfl)
theorem dX1_init_13 : decode cX1_init 13 = .ok (.istore_n 1, 1) := dk_60 (dk_at dksX1_init_0 13 rfl rfl)
theorem dX1_init_14 : decode cX1_init 14 = .ok (.iload_n 1, 1) := dk_27 (dk_at dksX1_init_0 14 rfl rfl)
theorem dX1_init_15 : decode cX1_init 15 = .ok (.iconst 2, 1) := dk_5 (dk_at dksX1_init_0 15 rfl rfl)
theorem dX1_init_16 : decode cX1_init 16 = .ok (.if_icmp .ge 22, 3) := dk_162 0 22 (dk_at dksX1_init_0 16 rfl rfl)
theorem dX1_init_19 : decode cX1_init 19 = .ok (.aload_n 0, 1) := dk_42 (dk_at dksX1_init_0 19 rfl rfl)
theorem dX1_init_20 : decode cX1_init 20 = .ok (.getfield 11, 3) := dk_180 0 11 (dk_at dksX1_init_0 20 rfl rfl)
theorem dX1_init_23 : decode cX1_init 23 = .ok (.iload_n 1, 1) := dk_27 (dk_at dksX1_init_0 23 rfl rfl)
theorem dX1_init_24 : decode cX1_init 24 = .ok (.new 9, 3) := dk_187 0 9 (dk_at dksX1_init_1 0 rfl rfl)
theorem dX1_init_27 : decode cX1_init 27 = .ok (.dup, 1) := dk_89 (dk_at dksX1_init_1 3 rfl rfl)
theorem dX1_init_28 : decode cX1_init 28 = .ok (.invokespecial 17, 3) := dk_183 0 17 (dk_at dksX1_init_1 4 rfl rfl)
theorem dX1_init_31 : decode cX1_init 31 = .ok (.aastore, 1) := dk_83 (dk_at dksX1_init_1 7 rfl rfl)
theorem dX1_init_32 : decode cX1_init 32 = .ok (.iinc 1 1, 3) := dk_132 1 1 (dk_at dksX1_init_1 8 rfl rfl)
theorem dX1_init_35 : decode cX1_init 35 = .ok (.goto (-21), 3) := dk_167 255 235 (dk_at dksX1_init_1 11 rfl rfl)
theorem dX1_init_38 : decode cX1_init 38 = .ok (.return_, 1) := dk_177 (dk_at dksX1_init_1 14 rfl rfl)
abbrev cX1_copy : ByteArray := prog_4_method_2_code
def yX1_copy : MethodName := ⟨RX1, "copy", "()LChantRules$Choir;"⟩
def dkwX1_copy_2 : List UInt8 := [180, 0, 27, 181, 0, 27, 43, 42, 180, 0, 30, 181, 0, 30, 43, 176]
abbrev dktX1_copy_2 : List UInt8 := dkwX1_copy_2 ++ []
def dkwX1_copy_1 : List UInt8 := [28, 50, 182, 0, 19, 83, 132, 2, 1, 167, 255, 233, 43, 42, 180, 0, 23, 181, 0, 23, 43, 42]
abbrev dktX1_copy_1 : List UInt8 := dkwX1_copy_1 ++ dktX1_copy_2
def dkwX1_copy_0 : List UInt8 := [187, 0, 12, 89, 183, 0, 18, 76, 3, 61, 28, 5, 162, 0, 24, 43, 180, 0, 11, 28, 42, 180, 0, 11]
abbrev dktX1_copy_0 : List UInt8 := dkwX1_copy_0 ++ dktX1_copy_1
theorem dksX1_copy_0 : cX1_copy.data.toList.drop 0 = dktX1_copy_0 := by decide +kernel
theorem dksX1_copy_1 : cX1_copy.data.toList.drop 24 = dktX1_copy_1 := dk_seg dksX1_copy_0 24 rfl rfl
theorem dksX1_copy_2 : cX1_copy.data.toList.drop 46 = dktX1_copy_2 := dk_seg dksX1_copy_1 22 rfl rfl
theorem dX1_copy_0 : decode cX1_copy 0 = .ok (.new 12, 3) := dk_187 0 12 (dk_at dksX1_copy_0 0 rfl rfl)
theorem dX1_copy_3 : decode cX1_copy 3 = .ok (.dup, 1) := dk_89 (dk_at dksX1_copy_0 3 rfl rfl)
theorem dX1_copy_4 : decode cX1_copy 4 = .ok (.invokespecial 18, 3) := dk_183 0 18 (dk_at dksX1_copy_0 4 rfl rfl)
theorem dX1_copy_7 : decode cX1_copy 7 = .ok (.astore_n 1, 1) := dk_76 (dk_at dksX1_copy_0 7 rfl rfl)
theorem dX1_copy_8 : decode cX1_copy 8 = .ok (.iconst 0, 1) := dk_3 (dk_at dksX1_copy_0 8 rfl rfl)
theorem dX1_copy_9 : decode cX1_copy 9 = .ok (.istore_n 2, 1) := dk_61 (dk_at dksX1_copy_0 9 rfl rfl)
theorem dX1_copy_10 : decode cX1_copy 10 = .ok (.iload_n 2, 1) := dk_28 (dk_at dksX1_copy_0 10 rfl rfl)
theorem dX1_copy_11 : decode cX1_copy 11 = .ok (.iconst 2, 1) := dk_5 (dk_at dksX1_copy_0 11 rfl rfl)
theorem dX1_copy_12 : decode cX1_copy 12 = .ok (.if_icmp .ge 24, 3) := dk_162 0 24 (dk_at dksX1_copy_0 12 rfl rfl)
theorem dX1_copy_15 : decode cX1_copy 15 = .ok (.aload_n 1, 1) := dk_43 (dk_at dksX1_copy_0 15 rfl rfl)
theorem dX1_copy_16 : decode cX1_copy 16 = .ok (.getfield 11, 3) := dk_180 0 11 (dk_at dksX1_copy_0 16 rfl rfl)
theorem dX1_copy_19 : decode cX1_copy 19 = .ok (.iload_n 2, 1) := dk_28 (dk_at dksX1_copy_0 19 rfl rfl)
theorem dX1_copy_20 : decode cX1_copy 20 = .ok (.aload_n 0, 1) := dk_42 (dk_at dksX1_copy_0 20 rfl rfl)
theorem dX1_copy_21 : decode cX1_copy 21 = .ok (.getfield 11, 3) := dk_180 0 11 (dk_at dksX1_copy_0 21 rfl rfl)
theorem dX1_copy_24 : decode cX1_copy 24 = .ok (.iload_n 2, 1) := dk_28 (dk_at dksX1_copy_1 0 rfl rfl)
theorem dX1_copy_25 : decode cX1_copy 25 = .ok (.aaload, 1) := dk_50 (dk_at dksX1_copy_1 1 rfl rfl)
theorem dX1_copy_26 : decode cX1_copy 26 = .ok (.invokevirtual 19, 3) := dk_182 0 19 (dk_at dksX1_copy_1 2 rfl rfl)
theorem dX1_copy_29 : decode cX1_copy 29 = .ok (.aastore, 1) := dk_83 (dk_at dksX1_copy_1 5 rfl rfl)
theorem dX1_copy_30 : decode cX1_copy 30 = .ok (.iinc 2 1, 3) := dk_132 2 1 (dk_at dksX1_copy_1 6 rfl rfl)
theorem dX1_copy_33 : decode cX1_copy 33 = .ok (.goto (-23), 3) := dk_167 255 233 (dk_at dksX1_copy_1 9 rfl rfl)
theorem dX1_copy_36 : decode cX1_copy 36 = .ok (.aload_n 1, 1) := dk_43 (dk_at dksX1_copy_1 12 rfl rfl)
theorem dX1_copy_37 : decode cX1_copy 37 = .ok (.aload_n 0, 1) := dk_42 (dk_at dksX1_copy_1 13 rfl rfl)
theorem dX1_copy_38 : decode cX1_copy 38 = .ok (.getfield 23, 3) := dk_180 0 23 (dk_at dksX1_copy_1 14 rfl rfl)
theorem dX1_copy_41 : decode cX1_copy 41 = .ok (.putfield 23, 3) := dk_181 0 23 (dk_at dksX1_copy_1 17 rfl rfl)
theorem dX1_copy_44 : decode cX1_copy 44 = .ok (.aload_n 1, 1) := dk_43 (dk_at dksX1_copy_1 20 rfl rfl)
theorem dX1_copy_45 : decode cX1_copy 45 = .ok (.aload_n 0, 1) := dk_42 (dk_at dksX1_copy_1 21 rfl rfl)
theorem dX1_copy_46 : decode cX1_copy 46 = .ok (.getfield 27, 3) := dk_180 0 27 (dk_at dksX1_copy_2 0 rfl rfl)
theorem dX1_copy_49 : decode cX1_copy 49 = .ok (.putfield 27, 3) := dk_181 0 27 (dk_at dksX1_copy_2 3 rfl rfl)
theorem dX1_copy_52 : decode cX1_copy 52 = .ok (.aload_n 1, 1) := dk_43 (dk_at dksX1_copy_2 6 rfl rfl)
theorem dX1_copy_53 : decode cX1_copy 53 = .ok (.aload_n 0, 1) := dk_42 (dk_at dksX1_copy_2 7 rfl rfl)
theorem dX1_copy_54 : decode cX1_copy 54 = .ok (.getfield 30, 3) := dk_180 0 30 (dk_at dksX1_copy_2 8 rfl rfl)
theorem dX1_copy_57 : decode cX1_copy 57 = .ok (.putfield 30, 3) := dk_181 0 30 (dk_at dksX1_copy_2 11 rfl rfl)
theorem dX1_copy_60 : decode cX1_copy 60 = .ok (.aload_n 1, 1) := dk_43 (dk_at dksX1_copy_2 14 rfl rfl)
theorem dX1_copy_61 : decode cX1_copy 61 = .ok (.areturn, 1) := dk_176 (dk_at dksX1_copy_2 15 rfl rfl)
abbrev cX1_isState : ByteArray := prog_4_method_3_code
def yX1_isState : MethodName := ⟨RX1, "isState", "(II)Z"⟩
def dkwX1_isState_1 : List UInt8 := [3, 172]
abbrev dktX1_isState_1 : List UInt8 := dkwX1_isState_1 ++ []
def dkwX1_isState_0 : List UInt8 := [27, 184, 0, 33, 153, 0, 20, 42, 180, 0, 11, 27, 50, 28, 182, 0, 37, 153, 0, 7, 4, 167, 0, 4]
abbrev dktX1_isState_0 : List UInt8 := dkwX1_isState_0 ++ dktX1_isState_1
theorem dksX1_isState_0 : cX1_isState.data.toList.drop 0 = dktX1_isState_0 := by decide +kernel
theorem dksX1_isState_1 : cX1_isState.data.toList.drop 24 = dktX1_isState_1 := dk_seg dksX1_isState_0 24 rfl rfl
theorem dX1_isState_0 : decode cX1_isState 0 = .ok (.iload_n 1, 1) := dk_27 (dk_at dksX1_isState_0 0 rfl rfl)
theorem dX1_isState_1 : decode cX1_isState 1 = .ok (.invokestatic 33, 3) := dk_184 0 33 (dk_at dksX1_isState_0 1 rfl rfl)
theorem dX1_isState_4 : decode cX1_isState 4 = .ok (.ifCond .eq 20, 3) := dk_153 0 20 (dk_at dksX1_isState_0 4 rfl rfl)
theorem dX1_isState_7 : decode cX1_isState 7 = .ok (.aload_n 0, 1) := dk_42 (dk_at dksX1_isState_0 7 rfl rfl)
theorem dX1_isState_8 : decode cX1_isState 8 = .ok (.getfield 11, 3) := dk_180 0 11 (dk_at dksX1_isState_0 8 rfl rfl)
theorem dX1_isState_11 : decode cX1_isState 11 = .ok (.iload_n 1, 1) := dk_27 (dk_at dksX1_isState_0 11 rfl rfl)
theorem dX1_isState_12 : decode cX1_isState 12 = .ok (.aaload, 1) := dk_50 (dk_at dksX1_isState_0 12 rfl rfl)
theorem dX1_isState_13 : decode cX1_isState 13 = .ok (.iload_n 2, 1) := dk_28 (dk_at dksX1_isState_0 13 rfl rfl)
theorem dX1_isState_14 : decode cX1_isState 14 = .ok (.invokevirtual 37, 3) := dk_182 0 37 (dk_at dksX1_isState_0 14 rfl rfl)
theorem dX1_isState_17 : decode cX1_isState 17 = .ok (.ifCond .eq 7, 3) := dk_153 0 7 (dk_at dksX1_isState_0 17 rfl rfl)
theorem dX1_isState_20 : decode cX1_isState 20 = .ok (.iconst 1, 1) := dk_4 (dk_at dksX1_isState_0 20 rfl rfl)
theorem dX1_isState_21 : decode cX1_isState 21 = .ok (.goto 4, 3) := dk_167 0 4 (dk_at dksX1_isState_0 21 rfl rfl)
theorem dX1_isState_24 : decode cX1_isState 24 = .ok (.iconst 0, 1) := dk_3 (dk_at dksX1_isState_1 0 rfl rfl)
theorem dX1_isState_25 : decode cX1_isState 25 = .ok (.ireturn, 1) := dk_172 (dk_at dksX1_isState_1 1 rfl rfl)
abbrev cX1_tells : ByteArray := prog_4_method_5_code
def yX1_tells : MethodName := ⟨RX1, "tells", "(ILChantRules$Arc;)I"⟩
def dkwX1_tells_0 : List UInt8 := [42, 180, 0, 11, 27, 50, 44, 182, 0, 43, 62, 42, 89, 180, 0, 23, 4, 96, 181, 0, 23, 29, 172]
abbrev dktX1_tells_0 : List UInt8 := dkwX1_tells_0 ++ []
theorem dksX1_tells_0 : cX1_tells.data.toList.drop 0 = dktX1_tells_0 := by decide +kernel
theorem dX1_tells_0 : decode cX1_tells 0 = .ok (.aload_n 0, 1) := dk_42 (dk_at dksX1_tells_0 0 rfl rfl)
theorem dX1_tells_1 : decode cX1_tells 1 = .ok (.getfield 11, 3) := dk_180 0 11 (dk_at dksX1_tells_0 1 rfl rfl)
theorem dX1_tells_4 : decode cX1_tells 4 = .ok (.iload_n 1, 1) := dk_27 (dk_at dksX1_tells_0 4 rfl rfl)
theorem dX1_tells_5 : decode cX1_tells 5 = .ok (.aaload, 1) := dk_50 (dk_at dksX1_tells_0 5 rfl rfl)
theorem dX1_tells_6 : decode cX1_tells 6 = .ok (.aload_n 2, 1) := dk_44 (dk_at dksX1_tells_0 6 rfl rfl)
theorem dX1_tells_7 : decode cX1_tells 7 = .ok (.invokevirtual 43, 3) := dk_182 0 43 (dk_at dksX1_tells_0 7 rfl rfl)
theorem dX1_tells_10 : decode cX1_tells 10 = .ok (.istore_n 3, 1) := dk_62 (dk_at dksX1_tells_0 10 rfl rfl)
theorem dX1_tells_11 : decode cX1_tells 11 = .ok (.aload_n 0, 1) := dk_42 (dk_at dksX1_tells_0 11 rfl rfl)
theorem dX1_tells_12 : decode cX1_tells 12 = .ok (.dup, 1) := dk_89 (dk_at dksX1_tells_0 12 rfl rfl)
theorem dX1_tells_13 : decode cX1_tells 13 = .ok (.getfield 23, 3) := dk_180 0 23 (dk_at dksX1_tells_0 13 rfl rfl)
theorem dX1_tells_16 : decode cX1_tells 16 = .ok (.iconst 1, 1) := dk_4 (dk_at dksX1_tells_0 16 rfl rfl)
theorem dX1_tells_17 : decode cX1_tells 17 = .ok (.iadd, 1) := dk_96 (dk_at dksX1_tells_0 17 rfl rfl)
theorem dX1_tells_18 : decode cX1_tells 18 = .ok (.putfield 23, 3) := dk_181 0 23 (dk_at dksX1_tells_0 18 rfl rfl)
theorem dX1_tells_21 : decode cX1_tells 21 = .ok (.iload_n 3, 1) := dk_29 (dk_at dksX1_tells_0 21 rfl rfl)
theorem dX1_tells_22 : decode cX1_tells 22 = .ok (.ireturn, 1) := dk_172 (dk_at dksX1_tells_0 22 rfl rfl)
abbrev cX1_isArc : ByteArray := prog_4_method_4_code
def yX1_isArc : MethodName := ⟨RX1, "isArc", "(II)Z"⟩
def dkwX1_isArc_1 : List UInt8 := [3, 172]
abbrev dktX1_isArc_1 : List UInt8 := dkwX1_isArc_1 ++ []
def dkwX1_isArc_0 : List UInt8 := [27, 184, 0, 33, 153, 0, 20, 42, 180, 0, 11, 27, 50, 28, 182, 0, 40, 153, 0, 7, 4, 167, 0, 4]
abbrev dktX1_isArc_0 : List UInt8 := dkwX1_isArc_0 ++ dktX1_isArc_1
theorem dksX1_isArc_0 : cX1_isArc.data.toList.drop 0 = dktX1_isArc_0 := by decide +kernel
theorem dksX1_isArc_1 : cX1_isArc.data.toList.drop 24 = dktX1_isArc_1 := dk_seg dksX1_isArc_0 24 rfl rfl
theorem dX1_isArc_0 : decode cX1_isArc 0 = .ok (.iload_n 1, 1) := dk_27 (dk_at dksX1_isArc_0 0 rfl rfl)
theorem dX1_isArc_1 : decode cX1_isArc 1 = .ok (.invokestatic 33, 3) := dk_184 0 33 (dk_at dksX1_isArc_0 1 rfl rfl)
theorem dX1_isArc_4 : decode cX1_isArc 4 = .ok (.ifCond .eq 20, 3) := dk_153 0 20 (dk_at dksX1_isArc_0 4 rfl rfl)
theorem dX1_isArc_7 : decode cX1_isArc 7 = .ok (.aload_n 0, 1) := dk_42 (dk_at dksX1_isArc_0 7 rfl rfl)
theorem dX1_isArc_8 : decode cX1_isArc 8 = .ok (.getfield 11, 3) := dk_180 0 11 (dk_at dksX1_isArc_0 8 rfl rfl)
theorem dX1_isArc_11 : decode cX1_isArc 11 = .ok (.iload_n 1, 1) := dk_27 (dk_at dksX1_isArc_0 11 rfl rfl)
theorem dX1_isArc_12 : decode cX1_isArc 12 = .ok (.aaload, 1) := dk_50 (dk_at dksX1_isArc_0 12 rfl rfl)
theorem dX1_isArc_13 : decode cX1_isArc 13 = .ok (.iload_n 2, 1) := dk_28 (dk_at dksX1_isArc_0 13 rfl rfl)
theorem dX1_isArc_14 : decode cX1_isArc 14 = .ok (.invokevirtual 40, 3) := dk_182 0 40 (dk_at dksX1_isArc_0 14 rfl rfl)
theorem dX1_isArc_17 : decode cX1_isArc 17 = .ok (.ifCond .eq 7, 3) := dk_153 0 7 (dk_at dksX1_isArc_0 17 rfl rfl)
theorem dX1_isArc_20 : decode cX1_isArc 20 = .ok (.iconst 1, 1) := dk_4 (dk_at dksX1_isArc_0 20 rfl rfl)
theorem dX1_isArc_21 : decode cX1_isArc 21 = .ok (.goto 4, 3) := dk_167 0 4 (dk_at dksX1_isArc_0 21 rfl rfl)
theorem dX1_isArc_24 : decode cX1_isArc 24 = .ok (.iconst 0, 1) := dk_3 (dk_at dksX1_isArc_1 0 rfl rfl)
theorem dX1_isArc_25 : decode cX1_isArc 25 = .ok (.ireturn, 1) := dk_172 (dk_at dksX1_isArc_1 1 rfl rfl)
abbrev cX1_drops : ByteArray := prog_4_method_6_code
def yX1_drops : MethodName := ⟨RX1, "drops", "(II)I"⟩
def dkwX1_drops_0 : List UInt8 := [42, 180, 0, 11, 27, 50, 28, 182, 0, 47, 62, 42, 89, 180, 0, 27, 4, 96, 181, 0, 27, 29, 172]
abbrev dktX1_drops_0 : List UInt8 := dkwX1_drops_0 ++ []
theorem dksX1_drops_0 : cX1_drops.data.toList.drop 0 = dktX1_drops_0 := by decide +kernel
theorem dX1_drops_0 : decode cX1_drops 0 = .ok (.aload_n 0, 1) := dk_42 (dk_at dksX1_drops_0 0 rfl rfl)
theorem dX1_drops_1 : decode cX1_drops 1 = .ok (.getfield 11, 3) := dk_180 0 11 (dk_at dksX1_drops_0 1 rfl rfl)
theorem dX1_drops_4 : decode cX1_drops 4 = .ok (.iload_n 1, 1) := dk_27 (dk_at dksX1_drops_0 4 rfl rfl)
theorem dX1_drops_5 : decode cX1_drops 5 = .ok (.aaload, 1) := dk_50 (dk_at dksX1_drops_0 5 rfl rfl)
theorem dX1_drops_6 : decode cX1_drops 6 = .ok (.iload_n 2, 1) := dk_28 (dk_at dksX1_drops_0 6 rfl rfl)
theorem dX1_drops_7 : decode cX1_drops 7 = .ok (.invokevirtual 47, 3) := dk_182 0 47 (dk_at dksX1_drops_0 7 rfl rfl)
theorem dX1_drops_10 : decode cX1_drops 10 = .ok (.istore_n 3, 1) := dk_62 (dk_at dksX1_drops_0 10 rfl rfl)
theorem dX1_drops_11 : decode cX1_drops 11 = .ok (.aload_n 0, 1) := dk_42 (dk_at dksX1_drops_0 11 rfl rfl)
theorem dX1_drops_12 : decode cX1_drops 12 = .ok (.dup, 1) := dk_89 (dk_at dksX1_drops_0 12 rfl rfl)
theorem dX1_drops_13 : decode cX1_drops 13 = .ok (.getfield 27, 3) := dk_180 0 27 (dk_at dksX1_drops_0 13 rfl rfl)
theorem dX1_drops_16 : decode cX1_drops 16 = .ok (.iconst 1, 1) := dk_4 (dk_at dksX1_drops_0 16 rfl rfl)
theorem dX1_drops_17 : decode cX1_drops 17 = .ok (.iadd, 1) := dk_96 (dk_at dksX1_drops_0 17 rfl rfl)
theorem dX1_drops_18 : decode cX1_drops 18 = .ok (.putfield 27, 3) := dk_181 0 27 (dk_at dksX1_drops_0 18 rfl rfl)
theorem dX1_drops_21 : decode cX1_drops 21 = .ok (.iload_n 3, 1) := dk_29 (dk_at dksX1_drops_0 21 rfl rfl)
theorem dX1_drops_22 : decode cX1_drops 22 = .ok (.ireturn, 1) := dk_172 (dk_at dksX1_drops_0 22 rfl rfl)
abbrev cX1_turns : ByteArray := prog_4_method_7_code
def yX1_turns : MethodName := ⟨RX1, "turns", "(I)I"⟩
def dkwX1_turns_0 : List UInt8 := [42, 180, 0, 11, 27, 50, 182, 0, 51, 61, 42, 89, 180, 0, 30, 4, 96, 181, 0, 30, 28, 172]
abbrev dktX1_turns_0 : List UInt8 := dkwX1_turns_0 ++ []
theorem dksX1_turns_0 : cX1_turns.data.toList.drop 0 = dktX1_turns_0 := by decide +kernel
theorem dX1_turns_0 : decode cX1_turns 0 = .ok (.aload_n 0, 1) := dk_42 (dk_at dksX1_turns_0 0 rfl rfl)
theorem dX1_turns_1 : decode cX1_turns 1 = .ok (.getfield 11, 3) := dk_180 0 11 (dk_at dksX1_turns_0 1 rfl rfl)
theorem dX1_turns_4 : decode cX1_turns 4 = .ok (.iload_n 1, 1) := dk_27 (dk_at dksX1_turns_0 4 rfl rfl)
theorem dX1_turns_5 : decode cX1_turns 5 = .ok (.aaload, 1) := dk_50 (dk_at dksX1_turns_0 5 rfl rfl)
theorem dX1_turns_6 : decode cX1_turns 6 = .ok (.invokevirtual 51, 3) := dk_182 0 51 (dk_at dksX1_turns_0 6 rfl rfl)
theorem dX1_turns_9 : decode cX1_turns 9 = .ok (.istore_n 2, 1) := dk_61 (dk_at dksX1_turns_0 9 rfl rfl)
theorem dX1_turns_10 : decode cX1_turns 10 = .ok (.aload_n 0, 1) := dk_42 (dk_at dksX1_turns_0 10 rfl rfl)
theorem dX1_turns_11 : decode cX1_turns 11 = .ok (.dup, 1) := dk_89 (dk_at dksX1_turns_0 11 rfl rfl)
theorem dX1_turns_12 : decode cX1_turns 12 = .ok (.getfield 30, 3) := dk_180 0 30 (dk_at dksX1_turns_0 12 rfl rfl)
theorem dX1_turns_15 : decode cX1_turns 15 = .ok (.iconst 1, 1) := dk_4 (dk_at dksX1_turns_0 15 rfl rfl)
theorem dX1_turns_16 : decode cX1_turns 16 = .ok (.iadd, 1) := dk_96 (dk_at dksX1_turns_0 16 rfl rfl)
theorem dX1_turns_17 : decode cX1_turns 17 = .ok (.putfield 30, 3) := dk_181 0 30 (dk_at dksX1_turns_0 17 rfl rfl)
theorem dX1_turns_20 : decode cX1_turns 20 = .ok (.iload_n 2, 1) := dk_28 (dk_at dksX1_turns_0 20 rfl rfl)
theorem dX1_turns_21 : decode cX1_turns 21 = .ok (.ireturn, 1) := dk_172 (dk_at dksX1_turns_0 21 rfl rfl)
abbrev cX1_composed : ByteArray := prog_4_method_8_code
def yX1_composed : MethodName := ⟨RX1, "composed", "([LChantRules$Test;)LChantRules$Composed;"⟩
def dkwX1_composed_0 : List UInt8 := [187, 0, 54, 89, 42, 180, 0, 11, 3, 50, 42, 180, 0, 11, 4, 50, 43, 183, 0, 56, 176]
abbrev dktX1_composed_0 : List UInt8 := dkwX1_composed_0 ++ []
theorem dksX1_composed_0 : cX1_composed.data.toList.drop 0 = dktX1_composed_0 := by decide +kernel
theorem dX1_composed_0 : decode cX1_composed 0 = .ok (.new 54, 3) := dk_187 0 54 (dk_at dksX1_composed_0 0 rfl rfl)
theorem dX1_composed_3 : decode cX1_composed 3 = .ok (.dup, 1) := dk_89 (dk_at dksX1_composed_0 3 rfl rfl)
theorem dX1_composed_4 : decode cX1_composed 4 = .ok (.aload_n 0, 1) := dk_42 (dk_at dksX1_composed_0 4 rfl rfl)
theorem dX1_composed_5 : decode cX1_composed 5 = .ok (.getfield 11, 3) := dk_180 0 11 (dk_at dksX1_composed_0 5 rfl rfl)
theorem dX1_composed_8 : decode cX1_composed 8 = .ok (.iconst 0, 1) := dk_3 (dk_at dksX1_composed_0 8 rfl rfl)
theorem dX1_composed_9 : decode cX1_composed 9 = .ok (.aaload, 1) := dk_50 (dk_at dksX1_composed_0 9 rfl rfl)
theorem dX1_composed_10 : decode cX1_composed 10 = .ok (.aload_n 0, 1) := dk_42 (dk_at dksX1_composed_0 10 rfl rfl)
theorem dX1_composed_11 : decode cX1_composed 11 = .ok (.getfield 11, 3) := dk_180 0 11 (dk_at dksX1_composed_0 11 rfl rfl)
theorem dX1_composed_14 : decode cX1_composed 14 = .ok (.iconst 1, 1) := dk_4 (dk_at dksX1_composed_0 14 rfl rfl)
theorem dX1_composed_15 : decode cX1_composed 15 = .ok (.aaload, 1) := dk_50 (dk_at dksX1_composed_0 15 rfl rfl)
theorem dX1_composed_16 : decode cX1_composed 16 = .ok (.aload_n 1, 1) := dk_43 (dk_at dksX1_composed_0 16 rfl rfl)
theorem dX1_composed_17 : decode cX1_composed 17 = .ok (.invokespecial 56, 3) := dk_183 0 56 (dk_at dksX1_composed_0 17 rfl rfl)
theorem dX1_composed_20 : decode cX1_composed 20 = .ok (.areturn, 1) := dk_176 (dk_at dksX1_composed_0 20 rfl rfl)
abbrev cX1_bothAgain : ByteArray := prog_4_method_15_code
def yX1_bothAgain : MethodName := ⟨RX1, "bothAgain", "(Ljava/lang/CharSequence;)I"⟩
def dkwX1_bothAgain_9 : List UInt8 := [28, 43, 185, 0, 119, 1, 0, 104, 182, 0, 138, 172]
abbrev dktX1_bothAgain_9 : List UInt8 := dkwX1_bothAgain_9 ++ []
def dkwX1_bothAgain_8 : List UInt8 := [54, 7, 167, 255, 161, 42, 45, 28, 21, 4, 4, 96, 104, 182, 0, 125, 132, 4, 1, 167, 255, 119, 42, 45]
abbrev dktX1_bothAgain_8 : List UInt8 := dkwX1_bothAgain_8 ++ dktX1_bothAgain_9
def dkwX1_bothAgain_7 : List UInt8 := [45, 25, 6, 28, 21, 4, 104, 28, 21, 4, 4, 96, 104, 182, 0, 111, 153, 0, 7, 4, 167, 0, 4, 3]
abbrev dktX1_bothAgain_7 : List UInt8 := dkwX1_bothAgain_7 ++ dktX1_bothAgain_8
def dkwX1_bothAgain_6 : List UInt8 := [185, 0, 134, 2, 0, 16, 97, 100, 160, 0, 7, 4, 167, 0, 4, 3, 54, 7, 21, 7, 153, 0, 27, 42]
abbrev dktX1_bothAgain_6 : List UInt8 := dkwX1_bothAgain_6 ++ dktX1_bothAgain_7
def dkwX1_bothAgain_5 : List UInt8 := [193, 0, 129, 153, 0, 33, 25, 6, 192, 0, 129, 58, 8, 25, 8, 180, 0, 131, 43, 21, 4]
abbrev dktX1_bothAgain_5 : List UInt8 := dkwX1_bothAgain_5 ++ dktX1_bothAgain_6
def dkwX1_bothAgain_4 : List UInt8 := [185, 0, 96, 1, 0, 153, 0, 91, 25, 5, 185, 0, 102, 1, 0, 192, 0, 75, 58, 6, 25, 6]
abbrev dktX1_bothAgain_4 : List UInt8 := dkwX1_bothAgain_4 ++ dktX1_bothAgain_5
def dkwX1_bothAgain_3 : List UInt8 := [185, 0, 119, 1, 0, 162, 0, 132, 42, 180, 0, 11, 3, 50, 180, 0, 59, 182, 0, 92, 58, 5, 25, 5]
abbrev dktX1_bothAgain_3 : List UInt8 := dkwX1_bothAgain_3 ++ dktX1_bothAgain_4
def dkwX1_bothAgain_2 : List UInt8 := [18, 124, 79, 132, 4, 1, 167, 255, 240, 42, 45, 3, 182, 0, 125, 3, 54, 4, 21, 4, 43]
abbrev dktX1_bothAgain_2 : List UInt8 := dkwX1_bothAgain_2 ++ dktX1_bothAgain_3
def dkwX1_bothAgain_1 : List UInt8 := [185, 0, 119, 1, 0, 4, 96, 104, 188, 10, 78, 4, 54, 4, 21, 4, 45, 190, 162, 0, 15, 45, 21, 4]
abbrev dktX1_bothAgain_1 : List UInt8 := dkwX1_bothAgain_1 ++ dktX1_bothAgain_2
def dkwX1_bothAgain_0 : List UInt8 := [42, 180, 0, 11, 3, 50, 180, 0, 71, 42, 180, 0, 11, 4, 50, 180, 0, 71, 104, 61, 28, 43]
abbrev dktX1_bothAgain_0 : List UInt8 := dkwX1_bothAgain_0 ++ dktX1_bothAgain_1
theorem dksX1_bothAgain_0 : cX1_bothAgain.data.toList.drop 0 = dktX1_bothAgain_0 := by decide +kernel
theorem dksX1_bothAgain_1 : cX1_bothAgain.data.toList.drop 22 = dktX1_bothAgain_1 := dk_seg dksX1_bothAgain_0 22 rfl rfl
theorem dksX1_bothAgain_2 : cX1_bothAgain.data.toList.drop 46 = dktX1_bothAgain_2 := dk_seg dksX1_bothAgain_1 24 rfl rfl
theorem dksX1_bothAgain_3 : cX1_bothAgain.data.toList.drop 67 = dktX1_bothAgain_3 := dk_seg dksX1_bothAgain_2 21 rfl rfl
theorem dksX1_bothAgain_4 : cX1_bothAgain.data.toList.drop 91 = dktX1_bothAgain_4 := dk_seg dksX1_bothAgain_3 24 rfl rfl
theorem dksX1_bothAgain_5 : cX1_bothAgain.data.toList.drop 113 = dktX1_bothAgain_5 := dk_seg dksX1_bothAgain_4 22 rfl rfl
theorem dksX1_bothAgain_6 : cX1_bothAgain.data.toList.drop 134 = dktX1_bothAgain_6 := dk_seg dksX1_bothAgain_5 21 rfl rfl
theorem dksX1_bothAgain_7 : cX1_bothAgain.data.toList.drop 158 = dktX1_bothAgain_7 := dk_seg dksX1_bothAgain_6 24 rfl rfl
theorem dksX1_bothAgain_8 : cX1_bothAgain.data.toList.drop 182 = dktX1_bothAgain_8 := dk_seg dksX1_bothAgain_7 24 rfl rfl
theorem dksX1_bothAgain_9 : cX1_bothAgain.data.toList.drop 206 = dktX1_bothAgain_9 := dk_seg dksX1_bothAgain_8 24 rfl rfl
theorem dX1_bothAgain_0 : decode cX1_bothAgain 0 = .ok (.aload_n 0, 1) := dk_42 (dk_at dksX1_bothAgain_0 0 rfl rfl)
theorem dX1_bothAgain_1 : decode cX1_bothAgain 1 = .ok (.getfield 11, 3) := dk_180 0 11 (dk_at dksX1_bothAgain_0 1 rfl rfl)
theorem dX1_bothAgain_4 : decode cX1_bothAgain 4 = .ok (.iconst 0, 1) := dk_3 (dk_at dksX1_bothAgain_0 4 rfl rfl)
theorem dX1_bothAgain_5 : decode cX1_bothAgain 5 = .ok (.aaload, 1) := dk_50 (dk_at dksX1_bothAgain_0 5 rfl rfl)
theorem dX1_bothAgain_6 : decode cX1_bothAgain 6 = .ok (.getfield 71, 3) := dk_180 0 71 (dk_at dksX1_bothAgain_0 6 rfl rfl)
theorem dX1_bothAgain_9 : decode cX1_bothAgain 9 = .ok (.aload_n 0, 1) := dk_42 (dk_at dksX1_bothAgain_0 9 rfl rfl)
theorem dX1_bothAgain_10 : decode cX1_bothAgain 10 = .ok (.getfield 11, 3) := dk_180 0 11 (dk_at dksX1_bothAgain_0 10 rfl rfl)
theorem dX1_bothAgain_13 : decode cX1_bothAgain 13 = .ok (.iconst 1, 1) := dk_4 (dk_at dksX1_bothAgain_0 13 rfl rfl)
theorem dX1_bothAgain_14 : decode cX1_bothAgain 14 = .ok (.aaload, 1) := dk_50 (dk_at dksX1_bothAgain_0 14 rfl rfl)
theorem dX1_bothAgain_15 : decode cX1_bothAgain 15 = .ok (.getfield 71, 3) := dk_180 0 71 (dk_at dksX1_bothAgain_0 15 rfl rfl)
theorem dX1_bothAgain_18 : decode cX1_bothAgain 18 = .ok (.imul, 1) := dk_104 (dk_at dksX1_bothAgain_0 18 rfl rfl)
theorem dX1_bothAgain_19 : decode cX1_bothAgain 19 = .ok (.istore_n 2, 1) := dk_61 (dk_at dksX1_bothAgain_0 19 rfl rfl)
theorem dX1_bothAgain_20 : decode cX1_bothAgain 20 = .ok (.iload_n 2, 1) := dk_28 (dk_at dksX1_bothAgain_0 20 rfl rfl)
theorem dX1_bothAgain_21 : decode cX1_bothAgain 21 = .ok (.aload_n 1, 1) := dk_43 (dk_at dksX1_bothAgain_0 21 rfl rfl)
theorem dX1_bothAgain_22 : decode cX1_bothAgain 22 = .ok (.invokeinterface 119 1, 5) := by decide +kernel
theorem dX1_bothAgain_27 : decode cX1_bothAgain 27 = .ok (.iconst 1, 1) := dk_4 (dk_at dksX1_bothAgain_1 5 rfl rfl)
theorem dX1_bothAgain_28 : decode cX1_bothAgain 28 = .ok (.iadd, 1) := dk_96 (dk_at dksX1_bothAgain_1 6 rfl rfl)
theorem dX1_bothAgain_29 : decode cX1_bothAgain 29 = .ok (.imul, 1) := dk_104 (dk_at dksX1_bothAgain_1 7 rfl rfl)
theorem dX1_bothAgain_30 : decode cX1_bothAgain 30 = .ok (.newarray .int, 2) := dk_188_10 (dk_at dksX1_bothAgain_1 8 rfl rfl)
theorem dX1_bothAgain_32 : decode cX1_bothAgain 32 = .ok (.astore_n 3, 1) := dk_78 (dk_at dksX1_bothAgain_1 10 rfl rfl)
theorem dX1_bothAgain_33 : decode cX1_bothAgain 33 = .ok (.iconst 1, 1) := dk_4 (dk_at dksX1_bothAgain_1 11 rfl rfl)
theorem dX1_bothAgain_34 : decode cX1_bothAgain 34 = .ok (.istore 4, 2) := dk_54 4 (dk_at dksX1_bothAgain_1 12 rfl rfl)
theorem dX1_bothAgain_36 : decode cX1_bothAgain 36 = .ok (.iload 4, 2) := dk_21 4 (dk_at dksX1_bothAgain_1 14 rfl rfl)
theorem dX1_bothAgain_38 : decode cX1_bothAgain 38 = .ok (.aload_n 3, 1) := dk_45 (dk_at dksX1_bothAgain_1 16 rfl rfl)
theorem dX1_bothAgain_39 : decode cX1_bothAgain 39 = .ok (.arraylength, 1) := dk_190 (dk_at dksX1_bothAgain_1 17 rfl rfl)
theorem dX1_bothAgain_40 : decode cX1_bothAgain 40 = .ok (.if_icmp .ge 15, 3) := dk_162 0 15 (dk_at dksX1_bothAgain_1 18 rfl rfl)
theorem dX1_bothAgain_43 : decode cX1_bothAgain 43 = .ok (.aload_n 3, 1) := dk_45 (dk_at dksX1_bothAgain_1 21 rfl rfl)
theorem dX1_bothAgain_44 : decode cX1_bothAgain 44 = .ok (.iload 4, 2) := dk_21 4 (dk_at dksX1_bothAgain_1 22 rfl rfl)
theorem dX1_bothAgain_46 : decode cX1_bothAgain 46 = .ok (.ldc 124, 2) := dk_18 124 (dk_at dksX1_bothAgain_2 0 rfl rfl)
theorem dX1_bothAgain_48 : decode cX1_bothAgain 48 = .ok (.iastore, 1) := dk_79 (dk_at dksX1_bothAgain_2 2 rfl rfl)
theorem dX1_bothAgain_49 : decode cX1_bothAgain 49 = .ok (.iinc 4 1, 3) := dk_132 4 1 (dk_at dksX1_bothAgain_2 3 rfl rfl)
theorem dX1_bothAgain_52 : decode cX1_bothAgain 52 = .ok (.goto (-16), 3) := dk_167 255 240 (dk_at dksX1_bothAgain_2 6 rfl rfl)
theorem dX1_bothAgain_55 : decode cX1_bothAgain 55 = .ok (.aload_n 0, 1) := dk_42 (dk_at dksX1_bothAgain_2 9 rfl rfl)
theorem dX1_bothAgain_56 : decode cX1_bothAgain 56 = .ok (.aload_n 3, 1) := dk_45 (dk_at dksX1_bothAgain_2 10 rfl rfl)
theorem dX1_bothAgain_57 : decode cX1_bothAgain 57 = .ok (.iconst 0, 1) := dk_3 (dk_at dksX1_bothAgain_2 11 rfl rfl)
theorem dX1_bothAgain_58 : decode cX1_bothAgain 58 = .ok (.invokevirtual 125, 3) := dk_182 0 125 (dk_at dksX1_bothAgain_2 12 rfl rfl)
theorem dX1_bothAgain_61 : decode cX1_bothAgain 61 = .ok (.iconst 0, 1) := dk_3 (dk_at dksX1_bothAgain_2 15 rfl rfl)
theorem dX1_bothAgain_62 : decode cX1_bothAgain 62 = .ok (.istore 4, 2) := dk_54 4 (dk_at dksX1_bothAgain_2 16 rfl rfl)
theorem dX1_bothAgain_64 : decode cX1_bothAgain 64 = .ok (.iload 4, 2) := dk_21 4 (dk_at dksX1_bothAgain_2 18 rfl rfl)
theorem dX1_bothAgain_66 : decode cX1_bothAgain 66 = .ok (.aload_n 1, 1) := dk_43 (dk_at dksX1_bothAgain_2 20 rfl rfl)
theorem dX1_bothAgain_67 : decode cX1_bothAgain 67 = .ok (.invokeinterface 119 1, 5) := by decide +kernel
theorem dX1_bothAgain_72 : decode cX1_bothAgain 72 = .ok (.if_icmp .ge 132, 3) := dk_162 0 132 (dk_at dksX1_bothAgain_3 5 rfl rfl)
theorem dX1_bothAgain_75 : decode cX1_bothAgain 75 = .ok (.aload_n 0, 1) := dk_42 (dk_at dksX1_bothAgain_3 8 rfl rfl)
theorem dX1_bothAgain_76 : decode cX1_bothAgain 76 = .ok (.getfield 11, 3) := dk_180 0 11 (dk_at dksX1_bothAgain_3 9 rfl rfl)
theorem dX1_bothAgain_79 : decode cX1_bothAgain 79 = .ok (.iconst 0, 1) := dk_3 (dk_at dksX1_bothAgain_3 12 rfl rfl)
theorem dX1_bothAgain_80 : decode cX1_bothAgain 80 = .ok (.aaload, 1) := dk_50 (dk_at dksX1_bothAgain_3 13 rfl rfl)
theorem dX1_bothAgain_81 : decode cX1_bothAgain 81 = .ok (.getfield 59, 3) := dk_180 0 59 (dk_at dksX1_bothAgain_3 14 rfl rfl)
theorem dX1_bothAgain_84 : decode cX1_bothAgain 84 = .ok (.invokevirtual 92, 3) := dk_182 0 92 (dk_at dksX1_bothAgain_3 17 rfl rfl)
theorem dX1_bothAgain_87 : decode cX1_bothAgain 87 = .ok (.astore 5, 2) := dk_58 5 (dk_at dksX1_bothAgain_3 20 rfl rfl)
theorem dX1_bothAgain_89 : decode cX1_bothAgain 89 = .ok (.aload 5, 2) := dk_25 5 (dk_at dksX1_bothAgain_3 22 rfl rfl)
theorem dX1_bothAgain_91 : decode cX1_bothAgain 91 = .ok (.invokeinterface 96 1, 5) := by decide +kernel
theorem dX1_bothAgain_96 : decode cX1_bothAgain 96 = .ok (.ifCond .eq 91, 3) := dk_153 0 91 (dk_at dksX1_bothAgain_4 5 rfl rfl)
theorem dX1_bothAgain_99 : decode cX1_bothAgain 99 = .ok (.aload 5, 2) := dk_25 5 (dk_at dksX1_bothAgain_4 8 rfl rfl)
theorem dX1_bothAgain_101 : decode cX1_bothAgain 101 = .ok (.invokeinterface 102 1, 5) := by decide +kernel
theorem dX1_bothAgain_106 : decode cX1_bothAgain 106 = .ok (.checkcast 75, 3) := dk_192 0 75 (dk_at dksX1_bothAgain_4 15 rfl rfl)
theorem dX1_bothAgain_109 : decode cX1_bothAgain 109 = .ok (.astore 6, 2) := dk_58 6 (dk_at dksX1_bothAgain_4 18 rfl rfl)
theorem dX1_bothAgain_111 : decode cX1_bothAgain 111 = .ok (.aload 6, 2) := dk_25 6 (dk_at dksX1_bothAgain_4 20 rfl rfl)
theorem dX1_bothAgain_113 : decode cX1_bothAgain 113 = .ok (.instanceof 129, 3) := dk_193 0 129 (dk_at dksX1_bothAgain_5 0 rfl rfl)
theorem dX1_bothAgain_116 : decode cX1_bothAgain 116 = .ok (.ifCond .eq 33, 3) := dk_153 0 33 (dk_at dksX1_bothAgain_5 3 rfl rfl)
theorem dX1_bothAgain_119 : decode cX1_bothAgain 119 = .ok (.aload 6, 2) := dk_25 6 (dk_at dksX1_bothAgain_5 6 rfl rfl)
theorem dX1_bothAgain_121 : decode cX1_bothAgain 121 = .ok (.checkcast 129, 3) := dk_192 0 129 (dk_at dksX1_bothAgain_5 8 rfl rfl)
theorem dX1_bothAgain_124 : decode cX1_bothAgain 124 = .ok (.astore 8, 2) := dk_58 8 (dk_at dksX1_bothAgain_5 11 rfl rfl)
theorem dX1_bothAgain_126 : decode cX1_bothAgain 126 = .ok (.aload 8, 2) := dk_25 8 (dk_at dksX1_bothAgain_5 13 rfl rfl)
theorem dX1_bothAgain_128 : decode cX1_bothAgain 128 = .ok (.getfield 131, 3) := dk_180 0 131 (dk_at dksX1_bothAgain_5 15 rfl rfl)
theorem dX1_bothAgain_131 : decode cX1_bothAgain 131 = .ok (.aload_n 1, 1) := dk_43 (dk_at dksX1_bothAgain_5 18 rfl rfl)
theorem dX1_bothAgain_132 : decode cX1_bothAgain 132 = .ok (.iload 4, 2) := dk_21 4 (dk_at dksX1_bothAgain_5 19 rfl rfl)
theorem dX1_bothAgain_134 : decode cX1_bothAgain 134 = .ok (.invokeinterface 134 2, 5) := by decide +kernel
theorem dX1_bothAgain_139 : decode cX1_bothAgain 139 = .ok (.bipush 97, 2) := dk_16 97 (dk_at dksX1_bothAgain_6 5 rfl rfl)
theorem dX1_bothAgain_141 : decode cX1_bothAgain 141 = .ok (.isub, 1) := dk_100 (dk_at dksX1_bothAgain_6 7 rfl rfl)
theorem dX1_bothAgain_142 : decode cX1_bothAgain 142 = .ok (.if_icmp .ne 7, 3) := dk_160 0 7 (dk_at dksX1_bothAgain_6 8 rfl rfl)
theorem dX1_bothAgain_145 : decode cX1_bothAgain 145 = .ok (.iconst 1, 1) := dk_4 (dk_at dksX1_bothAgain_6 11 rfl rfl)
theorem dX1_bothAgain_146 : decode cX1_bothAgain 146 = .ok (.goto 4, 3) := dk_167 0 4 (dk_at dksX1_bothAgain_6 12 rfl rfl)
theorem dX1_bothAgain_149 : decode cX1_bothAgain 149 = .ok (.iconst 0, 1) := dk_3 (dk_at dksX1_bothAgain_6 15 rfl rfl)
theorem dX1_bothAgain_150 : decode cX1_bothAgain 150 = .ok (.istore 7, 2) := dk_54 7 (dk_at dksX1_bothAgain_6 16 rfl rfl)
theorem dX1_bothAgain_152 : decode cX1_bothAgain 152 = .ok (.iload 7, 2) := dk_21 7 (dk_at dksX1_bothAgain_6 18 rfl rfl)
theorem dX1_bothAgain_154 : decode cX1_bothAgain 154 = .ok (.ifCond .eq 27, 3) := dk_153 0 27 (dk_at dksX1_bothAgain_6 20 rfl rfl)
theorem dX1_bothAgain_157 : decode cX1_bothAgain 157 = .ok (.aload_n 0, 1) := dk_42 (dk_at dksX1_bothAgain_6 23 rfl rfl)
theorem dX1_bothAgain_158 : decode cX1_bothAgain 158 = .ok (.aload_n 3, 1) := dk_45 (dk_at dksX1_bothAgain_7 0 rfl rfl)
theorem dX1_bothAgain_159 : decode cX1_bothAgain 159 = .ok (.aload 6, 2) := dk_25 6 (dk_at dksX1_bothAgain_7 1 rfl rfl)
theorem dX1_bothAgain_161 : decode cX1_bothAgain 161 = .ok (.iload_n 2, 1) := dk_28 (dk_at dksX1_bothAgain_7 3 rfl rfl)
theorem dX1_bothAgain_162 : decode cX1_bothAgain 162 = .ok (.iload 4, 2) := dk_21 4 (dk_at dksX1_bothAgain_7 4 rfl rfl)
theorem dX1_bothAgain_164 : decode cX1_bothAgain 164 = .ok (.imul, 1) := dk_104 (dk_at dksX1_bothAgain_7 6 rfl rfl)
theorem dX1_bothAgain_165 : decode cX1_bothAgain 165 = .ok (.iload_n 2, 1) := dk_28 (dk_at dksX1_bothAgain_7 7 rfl rfl)
theorem dX1_bothAgain_166 : decode cX1_bothAgain 166 = .ok (.iload 4, 2) := dk_21 4 (dk_at dksX1_bothAgain_7 8 rfl rfl)
theorem dX1_bothAgain_168 : decode cX1_bothAgain 168 = .ok (.iconst 1, 1) := dk_4 (dk_at dksX1_bothAgain_7 10 rfl rfl)
theorem dX1_bothAgain_169 : decode cX1_bothAgain 169 = .ok (.iadd, 1) := dk_96 (dk_at dksX1_bothAgain_7 11 rfl rfl)
theorem dX1_bothAgain_170 : decode cX1_bothAgain 170 = .ok (.imul, 1) := dk_104 (dk_at dksX1_bothAgain_7 12 rfl rfl)
theorem dX1_bothAgain_171 : decode cX1_bothAgain 171 = .ok (.invokevirtual 111, 3) := dk_182 0 111 (dk_at dksX1_bothAgain_7 13 rfl rfl)
theorem dX1_bothAgain_174 : decode cX1_bothAgain 174 = .ok (.ifCond .eq 7, 3) := dk_153 0 7 (dk_at dksX1_bothAgain_7 16 rfl rfl)
theorem dX1_bothAgain_177 : decode cX1_bothAgain 177 = .ok (.iconst 1, 1) := dk_4 (dk_at dksX1_bothAgain_7 19 rfl rfl)
theorem dX1_bothAgain_178 : decode cX1_bothAgain 178 = .ok (.goto 4, 3) := dk_167 0 4 (dk_at dksX1_bothAgain_7 20 rfl rfl)
theorem dX1_bothAgain_181 : decode cX1_bothAgain 181 = .ok (.iconst 0, 1) := dk_3 (dk_at dksX1_bothAgain_7 23 rfl rfl)
theorem dX1_bothAgain_182 : decode cX1_bothAgain 182 = .ok (.istore 7, 2) := dk_54 7 (dk_at dksX1_bothAgain_8 0 rfl rfl)
theorem dX1_bothAgain_184 : decode cX1_bothAgain 184 = .ok (.goto (-95), 3) := dk_167 255 161 (dk_at dksX1_bothAgain_8 2 rfl rfl)
theorem dX1_bothAgain_187 : decode cX1_bothAgain 187 = .ok (.aload_n 0, 1) := dk_42 (dk_at dksX1_bothAgain_8 5 rfl rfl)
theorem dX1_bothAgain_188 : decode cX1_bothAgain 188 = .ok (.aload_n 3, 1) := dk_45 (dk_at dksX1_bothAgain_8 6 rfl rfl)
theorem dX1_bothAgain_189 : decode cX1_bothAgain 189 = .ok (.iload_n 2, 1) := dk_28 (dk_at dksX1_bothAgain_8 7 rfl rfl)
theorem dX1_bothAgain_190 : decode cX1_bothAgain 190 = .ok (.iload 4, 2) := dk_21 4 (dk_at dksX1_bothAgain_8 8 rfl rfl)
theorem dX1_bothAgain_192 : decode cX1_bothAgain 192 = .ok (.iconst 1, 1) := dk_4 (dk_at dksX1_bothAgain_8 10 rfl rfl)
theorem dX1_bothAgain_193 : decode cX1_bothAgain 193 = .ok (.iadd, 1) := dk_96 (dk_at dksX1_bothAgain_8 11 rfl rfl)
theorem dX1_bothAgain_194 : decode cX1_bothAgain 194 = .ok (.imul, 1) := dk_104 (dk_at dksX1_bothAgain_8 12 rfl rfl)
theorem dX1_bothAgain_195 : decode cX1_bothAgain 195 = .ok (.invokevirtual 125, 3) := dk_182 0 125 (dk_at dksX1_bothAgain_8 13 rfl rfl)
theorem dX1_bothAgain_198 : decode cX1_bothAgain 198 = .ok (.iinc 4 1, 3) := dk_132 4 1 (dk_at dksX1_bothAgain_8 16 rfl rfl)
theorem dX1_bothAgain_201 : decode cX1_bothAgain 201 = .ok (.goto (-137), 3) := dk_167 255 119 (dk_at dksX1_bothAgain_8 19 rfl rfl)
theorem dX1_bothAgain_204 : decode cX1_bothAgain 204 = .ok (.aload_n 0, 1) := dk_42 (dk_at dksX1_bothAgain_8 22 rfl rfl)
theorem dX1_bothAgain_205 : decode cX1_bothAgain 205 = .ok (.aload_n 3, 1) := dk_45 (dk_at dksX1_bothAgain_8 23 rfl rfl)
theorem dX1_bothAgain_206 : decode cX1_bothAgain 206 = .ok (.iload_n 2, 1) := dk_28 (dk_at dksX1_bothAgain_9 0 rfl rfl)
theorem dX1_bothAgain_207 : decode cX1_bothAgain 207 = .ok (.aload_n 1, 1) := dk_43 (dk_at dksX1_bothAgain_9 1 rfl rfl)
theorem dX1_bothAgain_208 : decode cX1_bothAgain 208 = .ok (.invokeinterface 119 1, 5) := by decide +kernel
theorem dX1_bothAgain_213 : decode cX1_bothAgain 213 = .ok (.imul, 1) := dk_104 (dk_at dksX1_bothAgain_9 7 rfl rfl)
theorem dX1_bothAgain_214 : decode cX1_bothAgain 214 = .ok (.invokevirtual 138, 3) := dk_182 0 138 (dk_at dksX1_bothAgain_9 8 rfl rfl)
theorem dX1_bothAgain_217 : decode cX1_bothAgain 217 = .ok (.ireturn, 1) := dk_172 (dk_at dksX1_bothAgain_9 11 rfl rfl)
abbrev cX1_breathes : ByteArray := prog_4_method_14_code
def yX1_breathes : MethodName := ⟨RX1, "breathes", "([II)V"⟩
def dkwX1_breathes_0 : List UInt8 := [4, 62, 29, 153, 0, 13, 42, 43, 28, 182, 0, 115, 62, 167, 255, 245, 177]
abbrev dktX1_breathes_0 : List UInt8 := dkwX1_breathes_0 ++ []
theorem dksX1_breathes_0 : cX1_breathes.data.toList.drop 0 = dktX1_breathes_0 := by decide +kernel
theorem dX1_breathes_0 : decode cX1_breathes 0 = .ok (.iconst 1, 1) := dk_4 (dk_at dksX1_breathes_0 0 rfl rfl)
theorem dX1_breathes_1 : decode cX1_breathes 1 = .ok (.istore_n 3, 1) := dk_62 (dk_at dksX1_breathes_0 1 rfl rfl)
theorem dX1_breathes_2 : decode cX1_breathes 2 = .ok (.iload_n 3, 1) := dk_29 (dk_at dksX1_breathes_0 2 rfl rfl)
theorem dX1_breathes_3 : decode cX1_breathes 3 = .ok (.ifCond .eq 13, 3) := dk_153 0 13 (dk_at dksX1_breathes_0 3 rfl rfl)
theorem dX1_breathes_6 : decode cX1_breathes 6 = .ok (.aload_n 0, 1) := dk_42 (dk_at dksX1_breathes_0 6 rfl rfl)
theorem dX1_breathes_7 : decode cX1_breathes 7 = .ok (.aload_n 1, 1) := dk_43 (dk_at dksX1_breathes_0 7 rfl rfl)
theorem dX1_breathes_8 : decode cX1_breathes 8 = .ok (.iload_n 2, 1) := dk_28 (dk_at dksX1_breathes_0 8 rfl rfl)
theorem dX1_breathes_9 : decode cX1_breathes 9 = .ok (.invokevirtual 115, 3) := dk_182 0 115 (dk_at dksX1_breathes_0 9 rfl rfl)
theorem dX1_breathes_12 : decode cX1_breathes 12 = .ok (.istore_n 3, 1) := dk_62 (dk_at dksX1_breathes_0 12 rfl rfl)
theorem dX1_breathes_13 : decode cX1_breathes 13 = .ok (.goto (-11), 3) := dk_167 255 245 (dk_at dksX1_breathes_0 13 rfl rfl)
theorem dX1_breathes_16 : decode cX1_breathes 16 = .ok (.return_, 1) := dk_177 (dk_at dksX1_breathes_0 16 rfl rfl)
abbrev cX1_breathesOnce : ByteArray := prog_4_method_13_code
def yX1_breathesOnce : MethodName := ⟨RX1, "breathesOnce", "([II)Z"⟩
def dkwX1_breathesOnce_8 : List UInt8 := [128, 54, 4, 132, 7, 1, 167, 255, 186, 167, 255, 158, 21, 4, 172]
abbrev dktX1_breathesOnce_8 : List UInt8 := dkwX1_breathesOnce_8 ++ []
def dkwX1_breathesOnce_7 : List UInt8 := [28, 29, 21, 7, 104, 96, 25, 6, 185, 0, 82, 1, 0, 96, 25, 6, 185, 0, 85, 1, 0, 182, 0, 88]
abbrev dktX1_breathesOnce_7 : List UInt8 := dkwX1_breathesOnce_7 ++ dktX1_breathesOnce_8
def dkwX1_breathesOnce_6 : List UInt8 := [193, 0, 109, 153, 0, 54, 21, 4, 42, 43, 28, 29, 21, 7, 104, 96, 25, 6, 185, 0, 79, 1, 0, 96]
abbrev dktX1_breathesOnce_6 : List UInt8 := dkwX1_breathesOnce_6 ++ dktX1_breathesOnce_7
def dkwX1_breathesOnce_5 : List UInt8 := [192, 0, 75, 58, 6, 3, 54, 7, 21, 7, 42, 180, 0, 11, 3, 50, 180, 0, 71, 162, 0, 62, 25, 6]
abbrev dktX1_breathesOnce_5 : List UInt8 := dkwX1_breathesOnce_5 ++ dktX1_breathesOnce_6
def dkwX1_breathesOnce_4 : List UInt8 := [182, 0, 92, 58, 5, 25, 5, 185, 0, 96, 1, 0, 153, 0, 94, 25, 5, 185, 0, 102, 1, 0]
abbrev dktX1_breathesOnce_4 : List UInt8 := dkwX1_breathesOnce_4 ++ dktX1_breathesOnce_5
def dkwX1_breathesOnce_3 : List UInt8 := [153, 0, 7, 4, 167, 0, 4, 3, 128, 54, 4, 167, 255, 204, 42, 180, 0, 11, 4, 50, 180, 0, 59]
abbrev dktX1_breathesOnce_3 : List UInt8 := dkwX1_breathesOnce_3 ++ dktX1_breathesOnce_4
def dkwX1_breathesOnce_2 : List UInt8 := [192, 0, 75, 58, 6, 21, 4, 25, 6, 193, 0, 109, 153, 0, 19, 42, 43, 25, 6, 28, 28, 182, 0, 111]
abbrev dktX1_breathesOnce_2 : List UInt8 := dkwX1_breathesOnce_2 ++ dktX1_breathesOnce_3
def dkwX1_breathesOnce_1 : List UInt8 := [182, 0, 92, 58, 5, 25, 5, 185, 0, 96, 1, 0, 153, 0, 48, 25, 5, 185, 0, 102, 1, 0]
abbrev dktX1_breathesOnce_1 : List UInt8 := dkwX1_breathesOnce_1 ++ dktX1_breathesOnce_2
def dkwX1_breathesOnce_0 : List UInt8 := [42, 180, 0, 11, 4, 50, 180, 0, 71, 62, 3, 54, 4, 42, 180, 0, 11, 3, 50, 180, 0, 59]
abbrev dktX1_breathesOnce_0 : List UInt8 := dkwX1_breathesOnce_0 ++ dktX1_breathesOnce_1
theorem dksX1_breathesOnce_0 : cX1_breathesOnce.data.toList.drop 0 = dktX1_breathesOnce_0 := by decide +kernel
theorem dksX1_breathesOnce_1 : cX1_breathesOnce.data.toList.drop 22 = dktX1_breathesOnce_1 := dk_seg dksX1_breathesOnce_0 22 rfl rfl
theorem dksX1_breathesOnce_2 : cX1_breathesOnce.data.toList.drop 44 = dktX1_breathesOnce_2 := dk_seg dksX1_breathesOnce_1 22 rfl rfl
theorem dksX1_breathesOnce_3 : cX1_breathesOnce.data.toList.drop 68 = dktX1_breathesOnce_3 := dk_seg dksX1_breathesOnce_2 24 rfl rfl
theorem dksX1_breathesOnce_4 : cX1_breathesOnce.data.toList.drop 91 = dktX1_breathesOnce_4 := dk_seg dksX1_breathesOnce_3 23 rfl rfl
theorem dksX1_breathesOnce_5 : cX1_breathesOnce.data.toList.drop 113 = dktX1_breathesOnce_5 := dk_seg dksX1_breathesOnce_4 22 rfl rfl
theorem dksX1_breathesOnce_6 : cX1_breathesOnce.data.toList.drop 137 = dktX1_breathesOnce_6 := dk_seg dksX1_breathesOnce_5 24 rfl rfl
theorem dksX1_breathesOnce_7 : cX1_breathesOnce.data.toList.drop 161 = dktX1_breathesOnce_7 := dk_seg dksX1_breathesOnce_6 24 rfl rfl
theorem dksX1_breathesOnce_8 : cX1_breathesOnce.data.toList.drop 185 = dktX1_breathesOnce_8 := dk_seg dksX1_breathesOnce_7 24 rfl rfl
theorem dX1_breathesOnce_0 : decode cX1_breathesOnce 0 = .ok (.aload_n 0, 1) := dk_42 (dk_at dksX1_breathesOnce_0 0 rfl rfl)
theorem dX1_breathesOnce_1 : decode cX1_breathesOnce 1 = .ok (.getfield 11, 3) := dk_180 0 11 (dk_at dksX1_breathesOnce_0 1 rfl rfl)
theorem dX1_breathesOnce_4 : decode cX1_breathesOnce 4 = .ok (.iconst 1, 1) := dk_4 (dk_at dksX1_breathesOnce_0 4 rfl rfl)
theorem dX1_breathesOnce_5 : decode cX1_breathesOnce 5 = .ok (.aaload, 1) := dk_50 (dk_at dksX1_breathesOnce_0 5 rfl rfl)
theorem dX1_breathesOnce_6 : decode cX1_breathesOnce 6 = .ok (.getfield 71, 3) := dk_180 0 71 (dk_at dksX1_breathesOnce_0 6 rfl rfl)
theorem dX1_breathesOnce_9 : decode cX1_breathesOnce 9 = .ok (.istore_n 3, 1) := dk_62 (dk_at dksX1_breathesOnce_0 9 rfl rfl)
theorem dX1_breathesOnce_10 : decode cX1_breathesOnce 10 = .ok (.iconst 0, 1) := dk_3 (dk_at dksX1_breathesOnce_0 10 rfl rfl)
theorem dX1_breathesOnce_11 : decode cX1_breathesOnce 11 = .ok (.istore 4, 2) := dk_54 4 (dk_at dksX1_breathesOnce_0 11 rfl rfl)
theorem dX1_breathesOnce_13 : decode cX1_breathesOnce 13 = .ok (.aload_n 0, 1) := dk_42 (dk_at dksX1_breathesOnce_0 13 rfl rfl)
theorem dX1_breathesOnce_14 : decode cX1_breathesOnce 14 = .ok (.getfield 11, 3) := dk_180 0 11 (dk_at dksX1_breathesOnce_0 14 rfl rfl)
theorem dX1_breathesOnce_17 : decode cX1_breathesOnce 17 = .ok (.iconst 0, 1) := dk_3 (dk_at dksX1_breathesOnce_0 17 rfl rfl)
theorem dX1_breathesOnce_18 : decode cX1_breathesOnce 18 = .ok (.aaload, 1) := dk_50 (dk_at dksX1_breathesOnce_0 18 rfl rfl)
theorem dX1_breathesOnce_19 : decode cX1_breathesOnce 19 = .ok (.getfield 59, 3) := dk_180 0 59 (dk_at dksX1_breathesOnce_0 19 rfl rfl)
theorem dX1_breathesOnce_22 : decode cX1_breathesOnce 22 = .ok (.invokevirtual 92, 3) := dk_182 0 92 (dk_at dksX1_breathesOnce_1 0 rfl rfl)
theorem dX1_breathesOnce_25 : decode cX1_breathesOnce 25 = .ok (.astore 5, 2) := dk_58 5 (dk_at dksX1_breathesOnce_1 3 rfl rfl)
theorem dX1_breathesOnce_27 : decode cX1_breathesOnce 27 = .ok (.aload 5, 2) := dk_25 5 (dk_at dksX1_breathesOnce_1 5 rfl rfl)
theorem dX1_breathesOnce_29 : decode cX1_breathesOnce 29 = .ok (.invokeinterface 96 1, 5) := by decide +kernel
theorem dX1_breathesOnce_34 : decode cX1_breathesOnce 34 = .ok (.ifCond .eq 48, 3) := dk_153 0 48 (dk_at dksX1_breathesOnce_1 12 rfl rfl)
theorem dX1_breathesOnce_37 : decode cX1_breathesOnce 37 = .ok (.aload 5, 2) := dk_25 5 (dk_at dksX1_breathesOnce_1 15 rfl rfl)
theorem dX1_breathesOnce_39 : decode cX1_breathesOnce 39 = .ok (.invokeinterface 102 1, 5) := by decide +kernel
theorem dX1_breathesOnce_44 : decode cX1_breathesOnce 44 = .ok (.checkcast 75, 3) := dk_192 0 75 (dk_at dksX1_breathesOnce_2 0 rfl rfl)
theorem dX1_breathesOnce_47 : decode cX1_breathesOnce 47 = .ok (.astore 6, 2) := dk_58 6 (dk_at dksX1_breathesOnce_2 3 rfl rfl)
theorem dX1_breathesOnce_49 : decode cX1_breathesOnce 49 = .ok (.iload 4, 2) := dk_21 4 (dk_at dksX1_breathesOnce_2 5 rfl rfl)
theorem dX1_breathesOnce_51 : decode cX1_breathesOnce 51 = .ok (.aload 6, 2) := dk_25 6 (dk_at dksX1_breathesOnce_2 7 rfl rfl)
theorem dX1_breathesOnce_53 : decode cX1_breathesOnce 53 = .ok (.instanceof 109, 3) := dk_193 0 109 (dk_at dksX1_breathesOnce_2 9 rfl rfl)
theorem dX1_breathesOnce_56 : decode cX1_breathesOnce 56 = .ok (.ifCond .eq 19, 3) := dk_153 0 19 (dk_at dksX1_breathesOnce_2 12 rfl rfl)
theorem dX1_breathesOnce_59 : decode cX1_breathesOnce 59 = .ok (.aload_n 0, 1) := dk_42 (dk_at dksX1_breathesOnce_2 15 rfl rfl)
theorem dX1_breathesOnce_60 : decode cX1_breathesOnce 60 = .ok (.aload_n 1, 1) := dk_43 (dk_at dksX1_breathesOnce_2 16 rfl rfl)
theorem dX1_breathesOnce_61 : decode cX1_breathesOnce 61 = .ok (.aload 6, 2) := dk_25 6 (dk_at dksX1_breathesOnce_2 17 rfl rfl)
theorem dX1_breathesOnce_63 : decode cX1_breathesOnce 63 = .ok (.iload_n 2, 1) := dk_28 (dk_at dksX1_breathesOnce_2 19 rfl rfl)
theorem dX1_breathesOnce_64 : decode cX1_breathesOnce 64 = .ok (.iload_n 2, 1) := dk_28 (dk_at dksX1_breathesOnce_2 20 rfl rfl)
theorem dX1_breathesOnce_65 : decode cX1_breathesOnce 65 = .ok (.invokevirtual 111, 3) := dk_182 0 111 (dk_at dksX1_breathesOnce_2 21 rfl rfl)
theorem dX1_breathesOnce_68 : decode cX1_breathesOnce 68 = .ok (.ifCond .eq 7, 3) := dk_153 0 7 (dk_at dksX1_breathesOnce_3 0 rfl rfl)
theorem dX1_breathesOnce_71 : decode cX1_breathesOnce 71 = .ok (.iconst 1, 1) := dk_4 (dk_at dksX1_breathesOnce_3 3 rfl rfl)
theorem dX1_breathesOnce_72 : decode cX1_breathesOnce 72 = .ok (.goto 4, 3) := dk_167 0 4 (dk_at dksX1_breathesOnce_3 4 rfl rfl)
theorem dX1_breathesOnce_75 : decode cX1_breathesOnce 75 = .ok (.iconst 0, 1) := dk_3 (dk_at dksX1_breathesOnce_3 7 rfl rfl)
theorem dX1_breathesOnce_76 : decode cX1_breathesOnce 76 = .ok (.ior, 1) := dk_128 (dk_at dksX1_breathesOnce_3 8 rfl rfl)
theorem dX1_breathesOnce_77 : decode cX1_breathesOnce 77 = .ok (.istore 4, 2) := dk_54 4 (dk_at dksX1_breathesOnce_3 9 rfl rfl)
theorem dX1_breathesOnce_79 : decode cX1_breathesOnce 79 = .ok (.goto (-52), 3) := dk_167 255 204 (dk_at dksX1_breathesOnce_3 11 rfl rfl)
theorem dX1_breathesOnce_82 : decode cX1_breathesOnce 82 = .ok (.aload_n 0, 1) := dk_42 (dk_at dksX1_breathesOnce_3 14 rfl rfl)
theorem dX1_breathesOnce_83 : decode cX1_breathesOnce 83 = .ok (.getfield 11, 3) := dk_180 0 11 (dk_at dksX1_breathesOnce_3 15 rfl rfl)
theorem dX1_breathesOnce_86 : decode cX1_breathesOnce 86 = .ok (.iconst 1, 1) := dk_4 (dk_at dksX1_breathesOnce_3 18 rfl rfl)
theorem dX1_breathesOnce_87 : decode cX1_breathesOnce 87 = .ok (.aaload, 1) := dk_50 (dk_at dksX1_breathesOnce_3 19 rfl rfl)
theorem dX1_breathesOnce_88 : decode cX1_breathesOnce 88 = .ok (.getfield 59, 3) := dk_180 0 59 (dk_at dksX1_breathesOnce_3 20 rfl rfl)
theorem dX1_breathesOnce_91 : decode cX1_breathesOnce 91 = .ok (.invokevirtual 92, 3) := dk_182 0 92 (dk_at dksX1_breathesOnce_4 0 rfl rfl)
theorem dX1_breathesOnce_94 : decode cX1_breathesOnce 94 = .ok (.astore 5, 2) := dk_58 5 (dk_at dksX1_breathesOnce_4 3 rfl rfl)
theorem dX1_breathesOnce_96 : decode cX1_breathesOnce 96 = .ok (.aload 5, 2) := dk_25 5 (dk_at dksX1_breathesOnce_4 5 rfl rfl)
theorem dX1_breathesOnce_98 : decode cX1_breathesOnce 98 = .ok (.invokeinterface 96 1, 5) := by decide +kernel
theorem dX1_breathesOnce_103 : decode cX1_breathesOnce 103 = .ok (.ifCond .eq 94, 3) := dk_153 0 94 (dk_at dksX1_breathesOnce_4 12 rfl rfl)
theorem dX1_breathesOnce_106 : decode cX1_breathesOnce 106 = .ok (.aload 5, 2) := dk_25 5 (dk_at dksX1_breathesOnce_4 15 rfl rfl)
theorem dX1_breathesOnce_108 : decode cX1_breathesOnce 108 = .ok (.invokeinterface 102 1, 5) := by decide +kernel
theorem dX1_breathesOnce_113 : decode cX1_breathesOnce 113 = .ok (.checkcast 75, 3) := dk_192 0 75 (dk_at dksX1_breathesOnce_5 0 rfl rfl)
theorem dX1_breathesOnce_116 : decode cX1_breathesOnce 116 = .ok (.astore 6, 2) := dk_58 6 (dk_at dksX1_breathesOnce_5 3 rfl rfl)
theorem dX1_breathesOnce_118 : decode cX1_breathesOnce 118 = .ok (.iconst 0, 1) := dk_3 (dk_at dksX1_breathesOnce_5 5 rfl rfl)
theorem dX1_breathesOnce_119 : decode cX1_breathesOnce 119 = .ok (.istore 7, 2) := dk_54 7 (dk_at dksX1_breathesOnce_5 6 rfl rfl)
theorem dX1_breathesOnce_121 : decode cX1_breathesOnce 121 = .ok (.iload 7, 2) := dk_21 7 (dk_at dksX1_breathesOnce_5 8 rfl rfl)
theorem dX1_breathesOnce_123 : decode cX1_breathesOnce 123 = .ok (.aload_n 0, 1) := dk_42 (dk_at dksX1_breathesOnce_5 10 rfl rfl)
theorem dX1_breathesOnce_124 : decode cX1_breathesOnce 124 = .ok (.getfield 11, 3) := dk_180 0 11 (dk_at dksX1_breathesOnce_5 11 rfl rfl)
theorem dX1_breathesOnce_127 : decode cX1_breathesOnce 127 = .ok (.iconst 0, 1) := dk_3 (dk_at dksX1_breathesOnce_5 14 rfl rfl)
theorem dX1_breathesOnce_128 : decode cX1_breathesOnce 128 = .ok (.aaload, 1) := dk_50 (dk_at dksX1_breathesOnce_5 15 rfl rfl)
theorem dX1_breathesOnce_129 : decode cX1_breathesOnce 129 = .ok (.getfield 71, 3) := dk_180 0 71 (dk_at dksX1_breathesOnce_5 16 rfl rfl)
theorem dX1_breathesOnce_132 : decode cX1_breathesOnce 132 = .ok (.if_icmp .ge 62, 3) := dk_162 0 62 (dk_at dksX1_breathesOnce_5 19 rfl rfl)
theorem dX1_breathesOnce_135 : decode cX1_breathesOnce 135 = .ok (.aload 6, 2) := dk_25 6 (dk_at dksX1_breathesOnce_5 22 rfl rfl)
theorem dX1_breathesOnce_137 : decode cX1_breathesOnce 137 = .ok (.instanceof 109, 3) := dk_193 0 109 (dk_at dksX1_breathesOnce_6 0 rfl rfl)
theorem dX1_breathesOnce_140 : decode cX1_breathesOnce 140 = .ok (.ifCond .eq 54, 3) := dk_153 0 54 (dk_at dksX1_breathesOnce_6 3 rfl rfl)
theorem dX1_breathesOnce_143 : decode cX1_breathesOnce 143 = .ok (.iload 4, 2) := dk_21 4 (dk_at dksX1_breathesOnce_6 6 rfl rfl)
theorem dX1_breathesOnce_145 : decode cX1_breathesOnce 145 = .ok (.aload_n 0, 1) := dk_42 (dk_at dksX1_breathesOnce_6 8 rfl rfl)
theorem dX1_breathesOnce_146 : decode cX1_breathesOnce 146 = .ok (.aload_n 1, 1) := dk_43 (dk_at dksX1_breathesOnce_6 9 rfl rfl)
theorem dX1_breathesOnce_147 : decode cX1_breathesOnce 147 = .ok (.iload_n 2, 1) := dk_28 (dk_at dksX1_breathesOnce_6 10 rfl rfl)
theorem dX1_breathesOnce_148 : decode cX1_breathesOnce 148 = .ok (.iload_n 3, 1) := dk_29 (dk_at dksX1_breathesOnce_6 11 rfl rfl)
theorem dX1_breathesOnce_149 : decode cX1_breathesOnce 149 = .ok (.iload 7, 2) := dk_21 7 (dk_at dksX1_breathesOnce_6 12 rfl rfl)
theorem dX1_breathesOnce_151 : decode cX1_breathesOnce 151 = .ok (.imul, 1) := dk_104 (dk_at dksX1_breathesOnce_6 14 rfl rfl)
theorem dX1_breathesOnce_152 : decode cX1_breathesOnce 152 = .ok (.iadd, 1) := dk_96 (dk_at dksX1_breathesOnce_6 15 rfl rfl)
theorem dX1_breathesOnce_153 : decode cX1_breathesOnce 153 = .ok (.aload 6, 2) := dk_25 6 (dk_at dksX1_breathesOnce_6 16 rfl rfl)
theorem dX1_breathesOnce_155 : decode cX1_breathesOnce 155 = .ok (.invokeinterface 79 1, 5) := by decide +kernel
theorem dX1_breathesOnce_160 : decode cX1_breathesOnce 160 = .ok (.iadd, 1) := dk_96 (dk_at dksX1_breathesOnce_6 23 rfl rfl)
theorem dX1_breathesOnce_161 : decode cX1_breathesOnce 161 = .ok (.iload_n 2, 1) := dk_28 (dk_at dksX1_breathesOnce_7 0 rfl rfl)
theorem dX1_breathesOnce_162 : decode cX1_breathesOnce 162 = .ok (.iload_n 3, 1) := dk_29 (dk_at dksX1_breathesOnce_7 1 rfl rfl)
theorem dX1_breathesOnce_163 : decode cX1_breathesOnce 163 = .ok (.iload 7, 2) := dk_21 7 (dk_at dksX1_breathesOnce_7 2 rfl rfl)
theorem dX1_breathesOnce_165 : decode cX1_breathesOnce 165 = .ok (.imul, 1) := dk_104 (dk_at dksX1_breathesOnce_7 4 rfl rfl)
theorem dX1_breathesOnce_166 : decode cX1_breathesOnce 166 = .ok (.iadd, 1) := dk_96 (dk_at dksX1_breathesOnce_7 5 rfl rfl)
theorem dX1_breathesOnce_167 : decode cX1_breathesOnce 167 = .ok (.aload 6, 2) := dk_25 6 (dk_at dksX1_breathesOnce_7 6 rfl rfl)
theorem dX1_breathesOnce_169 : decode cX1_breathesOnce 169 = .ok (.invokeinterface 82 1, 5) := by decide +kernel
theorem dX1_breathesOnce_174 : decode cX1_breathesOnce 174 = .ok (.iadd, 1) := dk_96 (dk_at dksX1_breathesOnce_7 13 rfl rfl)
theorem dX1_breathesOnce_175 : decode cX1_breathesOnce 175 = .ok (.aload 6, 2) := dk_25 6 (dk_at dksX1_breathesOnce_7 14 rfl rfl)
theorem dX1_breathesOnce_177 : decode cX1_breathesOnce 177 = .ok (.invokeinterface 85 1, 5) := by decide +kernel
theorem dX1_breathesOnce_182 : decode cX1_breathesOnce 182 = .ok (.invokevirtual 88, 3) := dk_182 0 88 (dk_at dksX1_breathesOnce_7 21 rfl rfl)
theorem dX1_breathesOnce_185 : decode cX1_breathesOnce 185 = .ok (.ior, 1) := dk_128 (dk_at dksX1_breathesOnce_8 0 rfl rfl)
theorem dX1_breathesOnce_186 : decode cX1_breathesOnce 186 = .ok (.istore 4, 2) := dk_54 4 (dk_at dksX1_breathesOnce_8 1 rfl rfl)
theorem dX1_breathesOnce_188 : decode cX1_breathesOnce 188 = .ok (.iinc 7 1, 3) := dk_132 7 1 (dk_at dksX1_breathesOnce_8 3 rfl rfl)
theorem dX1_breathesOnce_191 : decode cX1_breathesOnce 191 = .ok (.goto (-70), 3) := dk_167 255 186 (dk_at dksX1_breathesOnce_8 6 rfl rfl)
theorem dX1_breathesOnce_194 : decode cX1_breathesOnce 194 = .ok (.goto (-98), 3) := dk_167 255 158 (dk_at dksX1_breathesOnce_8 9 rfl rfl)
theorem dX1_breathesOnce_197 : decode cX1_breathesOnce 197 = .ok (.iload 4, 2) := dk_21 4 (dk_at dksX1_breathesOnce_8 12 rfl rfl)
theorem dX1_breathesOnce_199 : decode cX1_breathesOnce 199 = .ok (.ireturn, 1) := dk_172 (dk_at dksX1_breathesOnce_8 14 rfl rfl)
abbrev cX1_goes : ByteArray := prog_4_method_12_code
def yX1_goes : MethodName := ⟨RX1, "goes", "([ILChantRules$Arc;II)Z"⟩
def dkwX1_goes_9 : List UInt8 := [54, 7, 167, 255, 145, 21, 7, 172]
abbrev dktX1_goes_9 : List UInt8 := dkwX1_goes_9 ++ []
def dkwX1_goes_8 : List UInt8 := [185, 0, 82, 1, 0, 96, 44, 185, 0, 85, 1, 0, 25, 9, 185, 0, 85, 1, 0, 96, 182, 0, 88, 128]
abbrev dktX1_goes_8 : List UInt8 := dkwX1_goes_8 ++ dktX1_goes_9
def dkwX1_goes_7 : List UInt8 := [25, 9, 185, 0, 79, 1, 0, 96, 21, 4, 21, 6, 44, 185, 0, 82, 1, 0, 104, 96, 25, 9]
abbrev dktX1_goes_7 : List UInt8 := dkwX1_goes_7 ++ dktX1_goes_8
def dkwX1_goes_6 : List UInt8 := [185, 0, 74, 1, 0, 160, 0, 66, 21, 7, 42, 43, 29, 21, 6, 44, 185, 0, 79, 1, 0, 104, 96]
abbrev dktX1_goes_6 : List UInt8 := dkwX1_goes_6 ++ dktX1_goes_7
def dkwX1_goes_5 : List UInt8 := [192, 0, 75, 58, 9, 44, 185, 0, 74, 1, 0, 7, 159, 0, 82, 25, 9, 185, 0, 106, 1, 0, 44]
abbrev dktX1_goes_5 : List UInt8 := dkwX1_goes_5 ++ dktX1_goes_6
def dkwX1_goes_4 : List UInt8 := [182, 0, 92, 58, 8, 25, 8, 185, 0, 96, 1, 0, 153, 0, 107, 25, 8, 185, 0, 102, 1, 0]
abbrev dktX1_goes_4 : List UInt8 := dkwX1_goes_4 ++ dktX1_goes_5
def dkwX1_goes_3 : List UInt8 := [96, 44, 185, 0, 85, 1, 0, 182, 0, 88, 128, 54, 7, 132, 8, 1, 167, 255, 191, 25, 5, 180, 0, 59]
abbrev dktX1_goes_3 : List UInt8 := dkwX1_goes_3 ++ dktX1_goes_4
def dkwX1_goes_2 : List UInt8 := [185, 0, 79, 1, 0, 104, 96, 21, 8, 96, 21, 4, 21, 6, 44, 185, 0, 82, 1, 0, 104, 96, 21, 8]
abbrev dktX1_goes_2 : List UInt8 := dkwX1_goes_2 ++ dktX1_goes_3
def dkwX1_goes_1 : List UInt8 := [21, 6, 162, 0, 64, 44, 185, 0, 74, 1, 0, 7, 160, 0, 54, 21, 7, 42, 43, 29, 21, 6, 44]
abbrev dktX1_goes_1 : List UInt8 := dkwX1_goes_1 ++ dktX1_goes_2
def dkwX1_goes_0 : List UInt8 := [42, 180, 0, 11, 4, 50, 58, 5, 25, 5, 180, 0, 71, 54, 6, 3, 54, 7, 3, 54, 8, 21, 8]
abbrev dktX1_goes_0 : List UInt8 := dkwX1_goes_0 ++ dktX1_goes_1
theorem dksX1_goes_0 : cX1_goes.data.toList.drop 0 = dktX1_goes_0 := by decide +kernel
theorem dksX1_goes_1 : cX1_goes.data.toList.drop 23 = dktX1_goes_1 := dk_seg dksX1_goes_0 23 rfl rfl
theorem dksX1_goes_2 : cX1_goes.data.toList.drop 46 = dktX1_goes_2 := dk_seg dksX1_goes_1 23 rfl rfl
theorem dksX1_goes_3 : cX1_goes.data.toList.drop 70 = dktX1_goes_3 := dk_seg dksX1_goes_2 24 rfl rfl
theorem dksX1_goes_4 : cX1_goes.data.toList.drop 94 = dktX1_goes_4 := dk_seg dksX1_goes_3 24 rfl rfl
theorem dksX1_goes_5 : cX1_goes.data.toList.drop 116 = dktX1_goes_5 := dk_seg dksX1_goes_4 22 rfl rfl
theorem dksX1_goes_6 : cX1_goes.data.toList.drop 139 = dktX1_goes_6 := dk_seg dksX1_goes_5 23 rfl rfl
theorem dksX1_goes_7 : cX1_goes.data.toList.drop 162 = dktX1_goes_7 := dk_seg dksX1_goes_6 23 rfl rfl
theorem dksX1_goes_8 : cX1_goes.data.toList.drop 184 = dktX1_goes_8 := dk_seg dksX1_goes_7 22 rfl rfl
theorem dksX1_goes_9 : cX1_goes.data.toList.drop 208 = dktX1_goes_9 := dk_seg dksX1_goes_8 24 rfl rfl
theorem dX1_goes_0 : decode cX1_goes 0 = .ok (.aload_n 0, 1) := dk_42 (dk_at dksX1_goes_0 0 rfl rfl)
theorem dX1_goes_1 : decode cX1_goes 1 = .ok (.getfield 11, 3) := dk_180 0 11 (dk_at dksX1_goes_0 1 rfl rfl)
theorem dX1_goes_4 : decode cX1_goes 4 = .ok (.iconst 1, 1) := dk_4 (dk_at dksX1_goes_0 4 rfl rfl)
theorem dX1_goes_5 : decode cX1_goes 5 = .ok (.aaload, 1) := dk_50 (dk_at dksX1_goes_0 5 rfl rfl)
theorem dX1_goes_6 : decode cX1_goes 6 = .ok (.astore 5, 2) := dk_58 5 (dk_at dksX1_goes_0 6 rfl rfl)
theorem dX1_goes_8 : decode cX1_goes 8 = .ok (.aload 5, 2) := dk_25 5 (dk_at dksX1_goes_0 8 rfl rfl)
theorem dX1_goes_10 : decode cX1_goes 10 = .ok (.getfield 71, 3) := dk_180 0 71 (dk_at dksX1_goes_0 10 rfl rfl)
theorem dX1_goes_13 : decode cX1_goes 13 = .ok (.istore 6, 2) := dk_54 6 (dk_at dksX1_goes_0 13 rfl rfl)
theorem dX1_goes_15 : decode cX1_goes 15 = .ok (.iconst 0, 1) := dk_3 (dk_at dksX1_goes_0 15 rfl rfl)
theorem dX1_goes_16 : decode cX1_goes 16 = .ok (.istore 7, 2) := dk_54 7 (dk_at dksX1_goes_0 16 rfl rfl)
theorem dX1_goes_18 : decode cX1_goes 18 = .ok (.iconst 0, 1) := dk_3 (dk_at dksX1_goes_0 18 rfl rfl)
theorem dX1_goes_19 : decode cX1_goes 19 = .ok (.istore 8, 2) := dk_54 8 (dk_at dksX1_goes_0 19 rfl rfl)
theorem dX1_goes_21 : decode cX1_goes 21 = .ok (.iload 8, 2) := dk_21 8 (dk_at dksX1_goes_0 21 rfl rfl)
theorem dX1_goes_23 : decode cX1_goes 23 = .ok (.iload 6, 2) := dk_21 6 (dk_at dksX1_goes_1 0 rfl rfl)
theorem dX1_goes_25 : decode cX1_goes 25 = .ok (.if_icmp .ge 64, 3) := dk_162 0 64 (dk_at dksX1_goes_1 2 rfl rfl)
theorem dX1_goes_28 : decode cX1_goes 28 = .ok (.aload_n 2, 1) := dk_44 (dk_at dksX1_goes_1 5 rfl rfl)
theorem dX1_goes_29 : decode cX1_goes 29 = .ok (.invokeinterface 74 1, 5) := by decide +kernel
theorem dX1_goes_34 : decode cX1_goes 34 = .ok (.iconst 4, 1) := dk_7 (dk_at dksX1_goes_1 11 rfl rfl)
theorem dX1_goes_35 : decode cX1_goes 35 = .ok (.if_icmp .ne 54, 3) := dk_160 0 54 (dk_at dksX1_goes_1 12 rfl rfl)
theorem dX1_goes_38 : decode cX1_goes 38 = .ok (.iload 7, 2) := dk_21 7 (dk_at dksX1_goes_1 15 rfl rfl)
theorem dX1_goes_40 : decode cX1_goes 40 = .ok (.aload_n 0, 1) := dk_42 (dk_at dksX1_goes_1 17 rfl rfl)
theorem dX1_goes_41 : decode cX1_goes 41 = .ok (.aload_n 1, 1) := dk_43 (dk_at dksX1_goes_1 18 rfl rfl)
theorem dX1_goes_42 : decode cX1_goes 42 = .ok (.iload_n 3, 1) := dk_29 (dk_at dksX1_goes_1 19 rfl rfl)
theorem dX1_goes_43 : decode cX1_goes 43 = .ok (.iload 6, 2) := dk_21 6 (dk_at dksX1_goes_1 20 rfl rfl)
theorem dX1_goes_45 : decode cX1_goes 45 = .ok (.aload_n 2, 1) := dk_44 (dk_at dksX1_goes_1 22 rfl rfl)
theorem dX1_goes_46 : decode cX1_goes 46 = .ok (.invokeinterface 79 1, 5) := by decide +kernel
theorem dX1_goes_51 : decode cX1_goes 51 = .ok (.imul, 1) := dk_104 (dk_at dksX1_goes_2 5 rfl rfl)
theorem dX1_goes_52 : decode cX1_goes 52 = .ok (.iadd, 1) := dk_96 (dk_at dksX1_goes_2 6 rfl rfl)
theorem dX1_goes_53 : decode cX1_goes 53 = .ok (.iload 8, 2) := dk_21 8 (dk_at dksX1_goes_2 7 rfl rfl)
theorem dX1_goes_55 : decode cX1_goes 55 = .ok (.iadd, 1) := dk_96 (dk_at dksX1_goes_2 9 rfl rfl)
theorem dX1_goes_56 : decode cX1_goes 56 = .ok (.iload 4, 2) := dk_21 4 (dk_at dksX1_goes_2 10 rfl rfl)
theorem dX1_goes_58 : decode cX1_goes 58 = .ok (.iload 6, 2) := dk_21 6 (dk_at dksX1_goes_2 12 rfl rfl)
theorem dX1_goes_60 : decode cX1_goes 60 = .ok (.aload_n 2, 1) := dk_44 (dk_at dksX1_goes_2 14 rfl rfl)
theorem dX1_goes_61 : decode cX1_goes 61 = .ok (.invokeinterface 82 1, 5) := by decide +kernel
theorem dX1_goes_66 : decode cX1_goes 66 = .ok (.imul, 1) := dk_104 (dk_at dksX1_goes_2 20 rfl rfl)
theorem dX1_goes_67 : decode cX1_goes 67 = .ok (.iadd, 1) := dk_96 (dk_at dksX1_goes_2 21 rfl rfl)
theorem dX1_goes_68 : decode cX1_goes 68 = .ok (.iload 8, 2) := dk_21 8 (dk_at dksX1_goes_2 22 rfl rfl)
theorem dX1_goes_70 : decode cX1_goes 70 = .ok (.iadd, 1) := dk_96 (dk_at dksX1_goes_3 0 rfl rfl)
theorem dX1_goes_71 : decode cX1_goes 71 = .ok (.aload_n 2, 1) := dk_44 (dk_at dksX1_goes_3 1 rfl rfl)
theorem dX1_goes_72 : decode cX1_goes 72 = .ok (.invokeinterface 85 1, 5) := by decide +kernel
theorem dX1_goes_77 : decode cX1_goes 77 = .ok (.invokevirtual 88, 3) := dk_182 0 88 (dk_at dksX1_goes_3 7 rfl rfl)
theorem dX1_goes_80 : decode cX1_goes 80 = .ok (.ior, 1) := dk_128 (dk_at dksX1_goes_3 10 rfl rfl)
theorem dX1_goes_81 : decode cX1_goes 81 = .ok (.istore 7, 2) := dk_54 7 (dk_at dksX1_goes_3 11 rfl rfl)
theorem dX1_goes_83 : decode cX1_goes 83 = .ok (.iinc 8 1, 3) := dk_132 8 1 (dk_at dksX1_goes_3 13 rfl rfl)
theorem dX1_goes_86 : decode cX1_goes 86 = .ok (.goto (-65), 3) := dk_167 255 191 (dk_at dksX1_goes_3 16 rfl rfl)
theorem dX1_goes_89 : decode cX1_goes 89 = .ok (.aload 5, 2) := dk_25 5 (dk_at dksX1_goes_3 19 rfl rfl)
theorem dX1_goes_91 : decode cX1_goes 91 = .ok (.getfield 59, 3) := dk_180 0 59 (dk_at dksX1_goes_3 21 rfl rfl)
theorem dX1_goes_94 : decode cX1_goes 94 = .ok (.invokevirtual 92, 3) := dk_182 0 92 (dk_at dksX1_goes_4 0 rfl rfl)
theorem dX1_goes_97 : decode cX1_goes 97 = .ok (.astore 8, 2) := dk_58 8 (dk_at dksX1_goes_4 3 rfl rfl)
theorem dX1_goes_99 : decode cX1_goes 99 = .ok (.aload 8, 2) := dk_25 8 (dk_at dksX1_goes_4 5 rfl rfl)
theorem dX1_goes_101 : decode cX1_goes 101 = .ok (.invokeinterface 96 1, 5) := by decide +kernel
theorem dX1_goes_106 : decode cX1_goes 106 = .ok (.ifCond .eq 107, 3) := dk_153 0 107 (dk_at dksX1_goes_4 12 rfl rfl)
theorem dX1_goes_109 : decode cX1_goes 109 = .ok (.aload 8, 2) := dk_25 8 (dk_at dksX1_goes_4 15 rfl rfl)
theorem dX1_goes_111 : decode cX1_goes 111 = .ok (.invokeinterface 102 1, 5) := by decide +kernel
theorem dX1_goes_116 : decode cX1_goes 116 = .ok (.checkcast 75, 3) := dk_192 0 75 (dk_at dksX1_goes_5 0 rfl rfl)
theorem dX1_goes_119 : decode cX1_goes 119 = .ok (.astore 9, 2) := dk_58 9 (dk_at dksX1_goes_5 3 rfl rfl)
theorem dX1_goes_121 : decode cX1_goes 121 = .ok (.aload_n 2, 1) := dk_44 (dk_at dksX1_goes_5 5 rfl rfl)
theorem dX1_goes_122 : decode cX1_goes 122 = .ok (.invokeinterface 74 1, 5) := by decide +kernel
theorem dX1_goes_127 : decode cX1_goes 127 = .ok (.iconst 4, 1) := dk_7 (dk_at dksX1_goes_5 11 rfl rfl)
theorem dX1_goes_128 : decode cX1_goes 128 = .ok (.if_icmp .eq 82, 3) := dk_159 0 82 (dk_at dksX1_goes_5 12 rfl rfl)
theorem dX1_goes_131 : decode cX1_goes 131 = .ok (.aload 9, 2) := dk_25 9 (dk_at dksX1_goes_5 15 rfl rfl)
theorem dX1_goes_133 : decode cX1_goes 133 = .ok (.invokeinterface 106 1, 5) := by decide +kernel
theorem dX1_goes_138 : decode cX1_goes 138 = .ok (.aload_n 2, 1) := dk_44 (dk_at dksX1_goes_5 22 rfl rfl)
theorem dX1_goes_139 : decode cX1_goes 139 = .ok (.invokeinterface 74 1, 5) := by decide +kernel
theorem dX1_goes_144 : decode cX1_goes 144 = .ok (.if_icmp .ne 66, 3) := dk_160 0 66 (dk_at dksX1_goes_6 5 rfl rfl)
theorem dX1_goes_147 : decode cX1_goes 147 = .ok (.iload 7, 2) := dk_21 7 (dk_at dksX1_goes_6 8 rfl rfl)
theorem dX1_goes_149 : decode cX1_goes 149 = .ok (.aload_n 0, 1) := dk_42 (dk_at dksX1_goes_6 10 rfl rfl)
theorem dX1_goes_150 : decode cX1_goes 150 = .ok (.aload_n 1, 1) := dk_43 (dk_at dksX1_goes_6 11 rfl rfl)
theorem dX1_goes_151 : decode cX1_goes 151 = .ok (.iload_n 3, 1) := dk_29 (dk_at dksX1_goes_6 12 rfl rfl)
theorem dX1_goes_152 : decode cX1_goes 152 = .ok (.iload 6, 2) := dk_21 6 (dk_at dksX1_goes_6 13 rfl rfl)
theorem dX1_goes_154 : decode cX1_goes 154 = .ok (.aload_n 2, 1) := dk_44 (dk_at dksX1_goes_6 15 rfl rfl)
theorem dX1_goes_155 : decode cX1_goes 155 = .ok (.invokeinterface 79 1, 5) := by decide +kernel
theorem dX1_goes_160 : decode cX1_goes 160 = .ok (.imul, 1) := dk_104 (dk_at dksX1_goes_6 21 rfl rfl)
theorem dX1_goes_161 : decode cX1_goes 161 = .ok (.iadd, 1) := dk_96 (dk_at dksX1_goes_6 22 rfl rfl)
theorem dX1_goes_162 : decode cX1_goes 162 = .ok (.aload 9, 2) := dk_25 9 (dk_at dksX1_goes_7 0 rfl rfl)
theorem dX1_goes_164 : decode cX1_goes 164 = .ok (.invokeinterface 79 1, 5) := by decide +kernel
theorem dX1_goes_169 : decode cX1_goes 169 = .ok (.iadd, 1) := dk_96 (dk_at dksX1_goes_7 7 rfl rfl)
theorem dX1_goes_170 : decode cX1_goes 170 = .ok (.iload 4, 2) := dk_21 4 (dk_at dksX1_goes_7 8 rfl rfl)
theorem dX1_goes_172 : decode cX1_goes 172 = .ok (.iload 6, 2) := dk_21 6 (dk_at dksX1_goes_7 10 rfl rfl)
theorem dX1_goes_174 : decode cX1_goes 174 = .ok (.aload_n 2, 1) := dk_44 (dk_at dksX1_goes_7 12 rfl rfl)
theorem dX1_goes_175 : decode cX1_goes 175 = .ok (.invokeinterface 82 1, 5) := by decide +kernel
theorem dX1_goes_180 : decode cX1_goes 180 = .ok (.imul, 1) := dk_104 (dk_at dksX1_goes_7 18 rfl rfl)
theorem dX1_goes_181 : decode cX1_goes 181 = .ok (.iadd, 1) := dk_96 (dk_at dksX1_goes_7 19 rfl rfl)
theorem dX1_goes_182 : decode cX1_goes 182 = .ok (.aload 9, 2) := dk_25 9 (dk_at dksX1_goes_7 20 rfl rfl)
theorem dX1_goes_184 : decode cX1_goes 184 = .ok (.invokeinterface 82 1, 5) := by decide +kernel
theorem dX1_goes_189 : decode cX1_goes 189 = .ok (.iadd, 1) := dk_96 (dk_at dksX1_goes_8 5 rfl rfl)
theorem dX1_goes_190 : decode cX1_goes 190 = .ok (.aload_n 2, 1) := dk_44 (dk_at dksX1_goes_8 6 rfl rfl)
theorem dX1_goes_191 : decode cX1_goes 191 = .ok (.invokeinterface 85 1, 5) := by decide +kernel
theorem dX1_goes_196 : decode cX1_goes 196 = .ok (.aload 9, 2) := dk_25 9 (dk_at dksX1_goes_8 12 rfl rfl)
theorem dX1_goes_198 : decode cX1_goes 198 = .ok (.invokeinterface 85 1, 5) := by decide +kernel
theorem dX1_goes_203 : decode cX1_goes 203 = .ok (.iadd, 1) := dk_96 (dk_at dksX1_goes_8 19 rfl rfl)
theorem dX1_goes_204 : decode cX1_goes 204 = .ok (.invokevirtual 88, 3) := dk_182 0 88 (dk_at dksX1_goes_8 20 rfl rfl)
theorem dX1_goes_207 : decode cX1_goes 207 = .ok (.ior, 1) := dk_128 (dk_at dksX1_goes_8 23 rfl rfl)
theorem dX1_goes_208 : decode cX1_goes 208 = .ok (.istore 7, 2) := dk_54 7 (dk_at dksX1_goes_9 0 rfl rfl)
theorem dX1_goes_210 : decode cX1_goes 210 = .ok (.goto (-111), 3) := dk_167 255 145 (dk_at dksX1_goes_9 2 rfl rfl)
theorem dX1_goes_213 : decode cX1_goes 213 = .ok (.iload 7, 2) := dk_21 7 (dk_at dksX1_goes_9 5 rfl rfl)
theorem dX1_goes_215 : decode cX1_goes 215 = .ok (.ireturn, 1) := dk_172 (dk_at dksX1_goes_9 7 rfl rfl)
abbrev cX1_isLess : ByteArray := prog_4_method_11_code
def yX1_isLess : MethodName := ⟨RX1, "isLess", "([IIII)Z"⟩
def dkwX1_isLess_1 : List UInt8 := [153, 0, 12, 43, 28, 46, 21, 4, 96, 167, 0, 6, 43, 29, 46, 79, 21, 5, 172]
abbrev dktX1_isLess_1 : List UInt8 := dkwX1_isLess_1 ++ []
def dkwX1_isLess_0 : List UInt8 := [43, 28, 46, 21, 4, 96, 43, 29, 46, 162, 0, 7, 4, 167, 0, 4, 3, 54, 5, 43, 29, 21, 5]
abbrev dktX1_isLess_0 : List UInt8 := dkwX1_isLess_0 ++ dktX1_isLess_1
theorem dksX1_isLess_0 : cX1_isLess.data.toList.drop 0 = dktX1_isLess_0 := by decide +kernel
theorem dksX1_isLess_1 : cX1_isLess.data.toList.drop 23 = dktX1_isLess_1 := dk_seg dksX1_isLess_0 23 rfl rfl
theorem dX1_isLess_0 : decode cX1_isLess 0 = .ok (.aload_n 1, 1) := dk_43 (dk_at dksX1_isLess_0 0 rfl rfl)
theorem dX1_isLess_1 : decode cX1_isLess 1 = .ok (.iload_n 2, 1) := dk_28 (dk_at dksX1_isLess_0 1 rfl rfl)
theorem dX1_isLess_2 : decode cX1_isLess 2 = .ok (.iaload, 1) := dk_46 (dk_at dksX1_isLess_0 2 rfl rfl)
theorem dX1_isLess_3 : decode cX1_isLess 3 = .ok (.iload 4, 2) := dk_21 4 (dk_at dksX1_isLess_0 3 rfl rfl)
theorem dX1_isLess_5 : decode cX1_isLess 5 = .ok (.iadd, 1) := dk_96 (dk_at dksX1_isLess_0 5 rfl rfl)
theorem dX1_isLess_6 : decode cX1_isLess 6 = .ok (.aload_n 1, 1) := dk_43 (dk_at dksX1_isLess_0 6 rfl rfl)
theorem dX1_isLess_7 : decode cX1_isLess 7 = .ok (.iload_n 3, 1) := dk_29 (dk_at dksX1_isLess_0 7 rfl rfl)
theorem dX1_isLess_8 : decode cX1_isLess 8 = .ok (.iaload, 1) := dk_46 (dk_at dksX1_isLess_0 8 rfl rfl)
theorem dX1_isLess_9 : decode cX1_isLess 9 = .ok (.if_icmp .ge 7, 3) := dk_162 0 7 (dk_at dksX1_isLess_0 9 rfl rfl)
theorem dX1_isLess_12 : decode cX1_isLess 12 = .ok (.iconst 1, 1) := dk_4 (dk_at dksX1_isLess_0 12 rfl rfl)
theorem dX1_isLess_13 : decode cX1_isLess 13 = .ok (.goto 4, 3) := dk_167 0 4 (dk_at dksX1_isLess_0 13 rfl rfl)
theorem dX1_isLess_16 : decode cX1_isLess 16 = .ok (.iconst 0, 1) := dk_3 (dk_at dksX1_isLess_0 16 rfl rfl)
theorem dX1_isLess_17 : decode cX1_isLess 17 = .ok (.istore 5, 2) := dk_54 5 (dk_at dksX1_isLess_0 17 rfl rfl)
theorem dX1_isLess_19 : decode cX1_isLess 19 = .ok (.aload_n 1, 1) := dk_43 (dk_at dksX1_isLess_0 19 rfl rfl)
theorem dX1_isLess_20 : decode cX1_isLess 20 = .ok (.iload_n 3, 1) := dk_29 (dk_at dksX1_isLess_0 20 rfl rfl)
theorem dX1_isLess_21 : decode cX1_isLess 21 = .ok (.iload 5, 2) := dk_21 5 (dk_at dksX1_isLess_0 21 rfl rfl)
theorem dX1_isLess_23 : decode cX1_isLess 23 = .ok (.ifCond .eq 12, 3) := dk_153 0 12 (dk_at dksX1_isLess_1 0 rfl rfl)
theorem dX1_isLess_26 : decode cX1_isLess 26 = .ok (.aload_n 1, 1) := dk_43 (dk_at dksX1_isLess_1 3 rfl rfl)
theorem dX1_isLess_27 : decode cX1_isLess 27 = .ok (.iload_n 2, 1) := dk_28 (dk_at dksX1_isLess_1 4 rfl rfl)
theorem dX1_isLess_28 : decode cX1_isLess 28 = .ok (.iaload, 1) := dk_46 (dk_at dksX1_isLess_1 5 rfl rfl)
theorem dX1_isLess_29 : decode cX1_isLess 29 = .ok (.iload 4, 2) := dk_21 4 (dk_at dksX1_isLess_1 6 rfl rfl)
theorem dX1_isLess_31 : decode cX1_isLess 31 = .ok (.iadd, 1) := dk_96 (dk_at dksX1_isLess_1 8 rfl rfl)
theorem dX1_isLess_32 : decode cX1_isLess 32 = .ok (.goto 6, 3) := dk_167 0 6 (dk_at dksX1_isLess_1 9 rfl rfl)
theorem dX1_isLess_35 : decode cX1_isLess 35 = .ok (.aload_n 1, 1) := dk_43 (dk_at dksX1_isLess_1 12 rfl rfl)
theorem dX1_isLess_36 : decode cX1_isLess 36 = .ok (.iload_n 3, 1) := dk_29 (dk_at dksX1_isLess_1 13 rfl rfl)
theorem dX1_isLess_37 : decode cX1_isLess 37 = .ok (.iaload, 1) := dk_46 (dk_at dksX1_isLess_1 14 rfl rfl)
theorem dX1_isLess_38 : decode cX1_isLess 38 = .ok (.iastore, 1) := dk_79 (dk_at dksX1_isLess_1 15 rfl rfl)
theorem dX1_isLess_39 : decode cX1_isLess 39 = .ok (.iload 5, 2) := dk_21 5 (dk_at dksX1_isLess_1 16 rfl rfl)
theorem dX1_isLess_41 : decode cX1_isLess 41 = .ok (.ireturn, 1) := dk_172 (dk_at dksX1_isLess_1 18 rfl rfl)
abbrev cX1_best : ByteArray := prog_4_method_16_code
def yX1_best : MethodName := ⟨RX1, "best", "([II)I"⟩
def dkwX1_best_6 : List UInt8 := [167, 255, 139, 132, 4, 1, 167, 255, 116, 29, 18, 124, 161, 0, 8, 16, 241, 167, 0, 4, 29, 172]
abbrev dktX1_best_6 : List UInt8 := dkwX1_best_6 ++ []
def dkwX1_best_5 : List UInt8 := [96, 54, 7, 21, 6, 153, 0, 14, 21, 7, 29, 162, 0, 8, 21, 7, 167, 0, 4, 29, 62, 132, 5, 1]
abbrev dktX1_best_5 : List UInt8 := dkwX1_best_5 ++ dktX1_best_6
def dkwX1_best_4 : List UInt8 := [46, 42, 180, 0, 11, 3, 50, 21, 4, 182, 0, 142, 96, 42, 180, 0, 11, 4, 50, 21, 5, 182, 0, 142]
abbrev dktX1_best_4 : List UInt8 := dkwX1_best_4 ++ dktX1_best_5
def dkwX1_best_3 : List UInt8 := [167, 0, 4, 3, 54, 6, 43, 28, 42, 180, 0, 11, 4, 50, 180, 0, 71, 21, 4, 104, 96, 21, 5, 96]
abbrev dktX1_best_3 : List UInt8 := dkwX1_best_3 ++ dktX1_best_4
def dkwX1_best_2 : List UInt8 := [182, 0, 142, 2, 159, 0, 22, 42, 180, 0, 11, 4, 50, 21, 5, 182, 0, 142, 2, 159, 0, 7, 4]
abbrev dktX1_best_2 : List UInt8 := dkwX1_best_2 ++ dktX1_best_3
def dkwX1_best_1 : List UInt8 := [21, 5, 42, 180, 0, 11, 4, 50, 180, 0, 71, 162, 0, 109, 42, 180, 0, 11, 3, 50, 21, 4]
abbrev dktX1_best_1 : List UInt8 := dkwX1_best_1 ++ dktX1_best_2
def dkwX1_best_0 : List UInt8 := [18, 124, 62, 3, 54, 4, 21, 4, 42, 180, 0, 11, 3, 50, 180, 0, 71, 162, 0, 132, 3, 54, 5]
abbrev dktX1_best_0 : List UInt8 := dkwX1_best_0 ++ dktX1_best_1
theorem dksX1_best_0 : cX1_best.data.toList.drop 0 = dktX1_best_0 := by decide +kernel
theorem dksX1_best_1 : cX1_best.data.toList.drop 23 = dktX1_best_1 := dk_seg dksX1_best_0 23 rfl rfl
theorem dksX1_best_2 : cX1_best.data.toList.drop 45 = dktX1_best_2 := dk_seg dksX1_best_1 22 rfl rfl
theorem dksX1_best_3 : cX1_best.data.toList.drop 68 = dktX1_best_3 := dk_seg dksX1_best_2 23 rfl rfl
theorem dksX1_best_4 : cX1_best.data.toList.drop 92 = dktX1_best_4 := dk_seg dksX1_best_3 24 rfl rfl
theorem dksX1_best_5 : cX1_best.data.toList.drop 116 = dktX1_best_5 := dk_seg dksX1_best_4 24 rfl rfl
theorem dksX1_best_6 : cX1_best.data.toList.drop 140 = dktX1_best_6 := dk_seg dksX1_best_5 24 rfl rfl
theorem dX1_best_0 : decode cX1_best 0 = .ok (.ldc 124, 2) := dk_18 124 (dk_at dksX1_best_0 0 rfl rfl)
theorem dX1_best_2 : decode cX1_best 2 = .ok (.istore_n 3, 1) := dk_62 (dk_at dksX1_best_0 2 rfl rfl)
theorem dX1_best_3 : decode cX1_best 3 = .ok (.iconst 0, 1) := dk_3 (dk_at dksX1_best_0 3 rfl rfl)
theorem dX1_best_4 : decode cX1_best 4 = .ok (.istore 4, 2) := dk_54 4 (dk_at dksX1_best_0 4 rfl rfl)
theorem dX1_best_6 : decode cX1_best 6 = .ok (.iload 4, 2) := dk_21 4 (dk_at dksX1_best_0 6 rfl rfl)
theorem dX1_best_8 : decode cX1_best 8 = .ok (.aload_n 0, 1) := dk_42 (dk_at dksX1_best_0 8 rfl rfl)
theorem dX1_best_9 : decode cX1_best 9 = .ok (.getfield 11, 3) := dk_180 0 11 (dk_at dksX1_best_0 9 rfl rfl)
theorem dX1_best_12 : decode cX1_best 12 = .ok (.iconst 0, 1) := dk_3 (dk_at dksX1_best_0 12 rfl rfl)
theorem dX1_best_13 : decode cX1_best 13 = .ok (.aaload, 1) := dk_50 (dk_at dksX1_best_0 13 rfl rfl)
theorem dX1_best_14 : decode cX1_best 14 = .ok (.getfield 71, 3) := dk_180 0 71 (dk_at dksX1_best_0 14 rfl rfl)
theorem dX1_best_17 : decode cX1_best 17 = .ok (.if_icmp .ge 132, 3) := dk_162 0 132 (dk_at dksX1_best_0 17 rfl rfl)
theorem dX1_best_20 : decode cX1_best 20 = .ok (.iconst 0, 1) := dk_3 (dk_at dksX1_best_0 20 rfl rfl)
theorem dX1_best_21 : decode cX1_best 21 = .ok (.istore 5, 2) := dk_54 5 (dk_at dksX1_best_0 21 rfl rfl)
theorem dX1_best_23 : decode cX1_best 23 = .ok (.iload 5, 2) := dk_21 5 (dk_at dksX1_best_1 0 rfl rfl)
theorem dX1_best_25 : decode cX1_best 25 = .ok (.aload_n 0, 1) := dk_42 (dk_at dksX1_best_1 2 rfl rfl)
theorem dX1_best_26 : decode cX1_best 26 = .ok (.getfield 11, 3) := dk_180 0 11 (dk_at dksX1_best_1 3 rfl rfl)
theorem dX1_best_29 : decode cX1_best 29 = .ok (.iconst 1, 1) := dk_4 (dk_at dksX1_best_1 6 rfl rfl)
theorem dX1_best_30 : decode cX1_best 30 = .ok (.aaload, 1) := dk_50 (dk_at dksX1_best_1 7 rfl rfl)
theorem dX1_best_31 : decode cX1_best 31 = .ok (.getfield 71, 3) := dk_180 0 71 (dk_at dksX1_best_1 8 rfl rfl)
theorem dX1_best_34 : decode cX1_best 34 = .ok (.if_icmp .ge 109, 3) := dk_162 0 109 (dk_at dksX1_best_1 11 rfl rfl)
theorem dX1_best_37 : decode cX1_best 37 = .ok (.aload_n 0, 1) := dk_42 (dk_at dksX1_best_1 14 rfl rfl)
theorem dX1_best_38 : decode cX1_best 38 = .ok (.getfield 11, 3) := dk_180 0 11 (dk_at dksX1_best_1 15 rfl rfl)
theorem dX1_best_41 : decode cX1_best 41 = .ok (.iconst 0, 1) := dk_3 (dk_at dksX1_best_1 18 rfl rfl)
theorem dX1_best_42 : decode cX1_best 42 = .ok (.aaload, 1) := dk_50 (dk_at dksX1_best_1 19 rfl rfl)
theorem dX1_best_43 : decode cX1_best 43 = .ok (.iload 4, 2) := dk_21 4 (dk_at dksX1_best_1 20 rfl rfl)
theorem dX1_best_45 : decode cX1_best 45 = .ok (.invokevirtual 142, 3) := dk_182 0 142 (dk_at dksX1_best_2 0 rfl rfl)
theorem dX1_best_48 : decode cX1_best 48 = .ok (.iconst (-1), 1) := dk_2 (dk_at dksX1_best_2 3 rfl rfl)
theorem dX1_best_49 : decode cX1_best 49 = .ok (.if_icmp .eq 22, 3) := dk_159 0 22 (dk_at dksX1_best_2 4 rfl rfl)
theorem dX1_best_52 : decode cX1_best 52 = .ok (.aload_n 0, 1) := dk_42 (dk_at dksX1_best_2 7 rfl rfl)
theorem dX1_best_53 : decode cX1_best 53 = .ok (.getfield 11, 3) := dk_180 0 11 (dk_at dksX1_best_2 8 rfl rfl)
theorem dX1_best_56 : decode cX1_best 56 = .ok (.iconst 1, 1) := dk_4 (dk_at dksX1_best_2 11 rfl rfl)
theorem dX1_best_57 : decode cX1_best 57 = .ok (.aaload, 1) := dk_50 (dk_at dksX1_best_2 12 rfl rfl)
theorem dX1_best_58 : decode cX1_best 58 = .ok (.iload 5, 2) := dk_21 5 (dk_at dksX1_best_2 13 rfl rfl)
theorem dX1_best_60 : decode cX1_best 60 = .ok (.invokevirtual 142, 3) := dk_182 0 142 (dk_at dksX1_best_2 15 rfl rfl)
theorem dX1_best_63 : decode cX1_best 63 = .ok (.iconst (-1), 1) := dk_2 (dk_at dksX1_best_2 18 rfl rfl)
theorem dX1_best_64 : decode cX1_best 64 = .ok (.if_icmp .eq 7, 3) := dk_159 0 7 (dk_at dksX1_best_2 19 rfl rfl)
theorem dX1_best_67 : decode cX1_best 67 = .ok (.iconst 1, 1) := dk_4 (dk_at dksX1_best_2 22 rfl rfl)
theorem dX1_best_68 : decode cX1_best 68 = .ok (.goto 4, 3) := dk_167 0 4 (dk_at dksX1_best_3 0 rfl rfl)
theorem dX1_best_71 : decode cX1_best 71 = .ok (.iconst 0, 1) := dk_3 (dk_at dksX1_best_3 3 rfl rfl)
theorem dX1_best_72 : decode cX1_best 72 = .ok (.istore 6, 2) := dk_54 6 (dk_at dksX1_best_3 4 rfl rfl)
theorem dX1_best_74 : decode cX1_best 74 = .ok (.aload_n 1, 1) := dk_43 (dk_at dksX1_best_3 6 rfl rfl)
theorem dX1_best_75 : decode cX1_best 75 = .ok (.iload_n 2, 1) := dk_28 (dk_at dksX1_best_3 7 rfl rfl)
theorem dX1_best_76 : decode cX1_best 76 = .ok (.aload_n 0, 1) := dk_42 (dk_at dksX1_best_3 8 rfl rfl)
theorem dX1_best_77 : decode cX1_best 77 = .ok (.getfield 11, 3) := dk_180 0 11 (dk_at dksX1_best_3 9 rfl rfl)
theorem dX1_best_80 : decode cX1_best 80 = .ok (.iconst 1, 1) := dk_4 (dk_at dksX1_best_3 12 rfl rfl)
theorem dX1_best_81 : decode cX1_best 81 = .ok (.aaload, 1) := dk_50 (dk_at dksX1_best_3 13 rfl rfl)
theorem dX1_best_82 : decode cX1_best 82 = .ok (.getfield 71, 3) := dk_180 0 71 (dk_at dksX1_best_3 14 rfl rfl)
theorem dX1_best_85 : decode cX1_best 85 = .ok (.iload 4, 2) := dk_21 4 (dk_at dksX1_best_3 17 rfl rfl)
theorem dX1_best_87 : decode cX1_best 87 = .ok (.imul, 1) := dk_104 (dk_at dksX1_best_3 19 rfl rfl)
theorem dX1_best_88 : decode cX1_best 88 = .ok (.iadd, 1) := dk_96 (dk_at dksX1_best_3 20 rfl rfl)
theorem dX1_best_89 : decode cX1_best 89 = .ok (.iload 5, 2) := dk_21 5 (dk_at dksX1_best_3 21 rfl rfl)
theorem dX1_best_91 : decode cX1_best 91 = .ok (.iadd, 1) := dk_96 (dk_at dksX1_best_3 23 rfl rfl)
theorem dX1_best_92 : decode cX1_best 92 = .ok (.iaload, 1) := dk_46 (dk_at dksX1_best_4 0 rfl rfl)
theorem dX1_best_93 : decode cX1_best 93 = .ok (.aload_n 0, 1) := dk_42 (dk_at dksX1_best_4 1 rfl rfl)
theorem dX1_best_94 : decode cX1_best 94 = .ok (.getfield 11, 3) := dk_180 0 11 (dk_at dksX1_best_4 2 rfl rfl)
theorem dX1_best_97 : decode cX1_best 97 = .ok (.iconst 0, 1) := dk_3 (dk_at dksX1_best_4 5 rfl rfl)
theorem dX1_best_98 : decode cX1_best 98 = .ok (.aaload, 1) := dk_50 (dk_at dksX1_best_4 6 rfl rfl)
theorem dX1_best_99 : decode cX1_best 99 = .ok (.iload 4, 2) := dk_21 4 (dk_at dksX1_best_4 7 rfl rfl)
theorem dX1_best_101 : decode cX1_best 101 = .ok (.invokevirtual 142, 3) := dk_182 0 142 (dk_at dksX1_best_4 9 rfl rfl)
theorem dX1_best_104 : decode cX1_best 104 = .ok (.iadd, 1) := dk_96 (dk_at dksX1_best_4 12 rfl rfl)
theorem dX1_best_105 : decode cX1_best 105 = .ok (.aload_n 0, 1) := dk_42 (dk_at dksX1_best_4 13 rfl rfl)
theorem dX1_best_106 : decode cX1_best 106 = .ok (.getfield 11, 3) := dk_180 0 11 (dk_at dksX1_best_4 14 rfl rfl)
theorem dX1_best_109 : decode cX1_best 109 = .ok (.iconst 1, 1) := dk_4 (dk_at dksX1_best_4 17 rfl rfl)
theorem dX1_best_110 : decode cX1_best 110 = .ok (.aaload, 1) := dk_50 (dk_at dksX1_best_4 18 rfl rfl)
theorem dX1_best_111 : decode cX1_best 111 = .ok (.iload 5, 2) := dk_21 5 (dk_at dksX1_best_4 19 rfl rfl)
theorem dX1_best_113 : decode cX1_best 113 = .ok (.invokevirtual 142, 3) := dk_182 0 142 (dk_at dksX1_best_4 21 rfl rfl)
theorem dX1_best_116 : decode cX1_best 116 = .ok (.iadd, 1) := dk_96 (dk_at dksX1_best_5 0 rfl rfl)
theorem dX1_best_117 : decode cX1_best 117 = .ok (.istore 7, 2) := dk_54 7 (dk_at dksX1_best_5 1 rfl rfl)
theorem dX1_best_119 : decode cX1_best 119 = .ok (.iload 6, 2) := dk_21 6 (dk_at dksX1_best_5 3 rfl rfl)
theorem dX1_best_121 : decode cX1_best 121 = .ok (.ifCond .eq 14, 3) := dk_153 0 14 (dk_at dksX1_best_5 5 rfl rfl)
theorem dX1_best_124 : decode cX1_best 124 = .ok (.iload 7, 2) := dk_21 7 (dk_at dksX1_best_5 8 rfl rfl)
theorem dX1_best_126 : decode cX1_best 126 = .ok (.iload_n 3, 1) := dk_29 (dk_at dksX1_best_5 10 rfl rfl)
theorem dX1_best_127 : decode cX1_best 127 = .ok (.if_icmp .ge 8, 3) := dk_162 0 8 (dk_at dksX1_best_5 11 rfl rfl)
theorem dX1_best_130 : decode cX1_best 130 = .ok (.iload 7, 2) := dk_21 7 (dk_at dksX1_best_5 14 rfl rfl)
theorem dX1_best_132 : decode cX1_best 132 = .ok (.goto 4, 3) := dk_167 0 4 (dk_at dksX1_best_5 16 rfl rfl)
theorem dX1_best_135 : decode cX1_best 135 = .ok (.iload_n 3, 1) := dk_29 (dk_at dksX1_best_5 19 rfl rfl)
theorem dX1_best_136 : decode cX1_best 136 = .ok (.istore_n 3, 1) := dk_62 (dk_at dksX1_best_5 20 rfl rfl)
theorem dX1_best_137 : decode cX1_best 137 = .ok (.iinc 5 1, 3) := dk_132 5 1 (dk_at dksX1_best_5 21 rfl rfl)
theorem dX1_best_140 : decode cX1_best 140 = .ok (.goto (-117), 3) := dk_167 255 139 (dk_at dksX1_best_6 0 rfl rfl)
theorem dX1_best_143 : decode cX1_best 143 = .ok (.iinc 4 1, 3) := dk_132 4 1 (dk_at dksX1_best_6 3 rfl rfl)
theorem dX1_best_146 : decode cX1_best 146 = .ok (.goto (-140), 3) := dk_167 255 116 (dk_at dksX1_best_6 6 rfl rfl)
theorem dX1_best_149 : decode cX1_best 149 = .ok (.iload_n 3, 1) := dk_29 (dk_at dksX1_best_6 9 rfl rfl)
theorem dX1_best_150 : decode cX1_best 150 = .ok (.ldc 124, 2) := dk_18 124 (dk_at dksX1_best_6 10 rfl rfl)
theorem dX1_best_152 : decode cX1_best 152 = .ok (.if_icmp .lt 8, 3) := dk_161 0 8 (dk_at dksX1_best_6 12 rfl rfl)
theorem dX1_best_155 : decode cX1_best 155 = .ok (.bipush (-15), 2) := dk_16 241 (dk_at dksX1_best_6 15 rfl rfl)
theorem dX1_best_157 : decode cX1_best 157 = .ok (.goto 4, 3) := dk_167 0 4 (dk_at dksX1_best_6 17 rfl rfl)
theorem dX1_best_160 : decode cX1_best 160 = .ok (.iload_n 3, 1) := dk_29 (dk_at dksX1_best_6 20 rfl rfl)
theorem dX1_best_161 : decode cX1_best 161 = .ok (.ireturn, 1) := dk_172 (dk_at dksX1_best_6 21 rfl rfl)
abbrev cX1_weights : ByteArray := prog_4_method_10_code
def yX1_weights : MethodName := ⟨RX1, "weights", "()I"⟩
def dkwX1_weights_0 : List UInt8 := [42, 180, 0, 11, 3, 50, 182, 0, 68, 42, 180, 0, 11, 4, 50, 182, 0, 68, 96, 172]
abbrev dktX1_weights_0 : List UInt8 := dkwX1_weights_0 ++ []
theorem dksX1_weights_0 : cX1_weights.data.toList.drop 0 = dktX1_weights_0 := by decide +kernel
theorem dX1_weights_0 : decode cX1_weights 0 = .ok (.aload_n 0, 1) := dk_42 (dk_at dksX1_weights_0 0 rfl rfl)
theorem dX1_weights_1 : decode cX1_weights 1 = .ok (.getfield 11, 3) := dk_180 0 11 (dk_at dksX1_weights_0 1 rfl rfl)
theorem dX1_weights_4 : decode cX1_weights 4 = .ok (.iconst 0, 1) := dk_3 (dk_at dksX1_weights_0 4 rfl rfl)
theorem dX1_weights_5 : decode cX1_weights 5 = .ok (.aaload, 1) := dk_50 (dk_at dksX1_weights_0 5 rfl rfl)
theorem dX1_weights_6 : decode cX1_weights 6 = .ok (.invokevirtual 68, 3) := dk_182 0 68 (dk_at dksX1_weights_0 6 rfl rfl)
theorem dX1_weights_9 : decode cX1_weights 9 = .ok (.aload_n 0, 1) := dk_42 (dk_at dksX1_weights_0 9 rfl rfl)
theorem dX1_weights_10 : decode cX1_weights 10 = .ok (.getfield 11, 3) := dk_180 0 11 (dk_at dksX1_weights_0 10 rfl rfl)
theorem dX1_weights_13 : decode cX1_weights 13 = .ok (.iconst 1, 1) := dk_4 (dk_at dksX1_weights_0 13 rfl rfl)
theorem dX1_weights_14 : decode cX1_weights 14 = .ok (.aaload, 1) := dk_50 (dk_at dksX1_weights_0 14 rfl rfl)
theorem dX1_weights_15 : decode cX1_weights 15 = .ok (.invokevirtual 68, 3) := dk_182 0 68 (dk_at dksX1_weights_0 15 rfl rfl)
theorem dX1_weights_18 : decode cX1_weights 18 = .ok (.iadd, 1) := dk_96 (dk_at dksX1_weights_0 18 rfl rfl)
theorem dX1_weights_19 : decode cX1_weights 19 = .ok (.ireturn, 1) := dk_172 (dk_at dksX1_weights_0 19 rfl rfl)
abbrev cX1_isBalanced : ByteArray := prog_4_method_17_code
def yX1_isBalanced : MethodName := ⟨RX1, "isBalanced", "([LChantRules$Test;)Z"⟩
def dkwX1_isBalanced_4 : List UInt8 := [160, 0, 7, 4, 167, 0, 4, 3, 126, 62, 132, 4, 1, 167, 255, 182, 29, 172]
abbrev dktX1_isBalanced_4 : List UInt8 := dkwX1_isBalanced_4 ++ []
def dkwX1_isBalanced_3 : List UInt8 := [182, 0, 170, 182, 0, 173, 58, 5, 29, 44, 25, 5, 182, 0, 177, 184, 0, 181, 42, 25, 5, 182, 0, 185]
abbrev dktX1_isBalanced_3 : List UInt8 := dkwX1_isBalanced_3 ++ dktX1_isBalanced_4
def dkwX1_isBalanced_2 : List UInt8 := [167, 0, 29, 187, 0, 153, 89, 183, 0, 155, 18, 151, 182, 0, 156, 21, 4, 184, 0, 160, 182, 0, 164]
abbrev dktX1_isBalanced_2 : List UInt8 := dkwX1_isBalanced_2 ++ dktX1_isBalanced_3
def dkwX1_isBalanced_1 : List UInt8 := [167, 0, 4, 3, 62, 3, 54, 4, 21, 4, 7, 163, 0, 74, 21, 4, 7, 160, 0, 8, 18, 151]
abbrev dktX1_isBalanced_1 : List UInt8 := dkwX1_isBalanced_1 ++ dktX1_isBalanced_2
def dkwX1_isBalanced_0 : List UInt8 := [42, 43, 182, 0, 145, 77, 42, 182, 0, 149, 42, 180, 0, 23, 42, 180, 0, 27, 100, 160, 0, 7, 4]
abbrev dktX1_isBalanced_0 : List UInt8 := dkwX1_isBalanced_0 ++ dktX1_isBalanced_1
theorem dksX1_isBalanced_0 : cX1_isBalanced.data.toList.drop 0 = dktX1_isBalanced_0 := by decide +kernel
theorem dksX1_isBalanced_1 : cX1_isBalanced.data.toList.drop 23 = dktX1_isBalanced_1 := dk_seg dksX1_isBalanced_0 23 rfl rfl
theorem dksX1_isBalanced_2 : cX1_isBalanced.data.toList.drop 45 = dktX1_isBalanced_2 := dk_seg dksX1_isBalanced_1 22 rfl rfl
theorem dksX1_isBalanced_3 : cX1_isBalanced.data.toList.drop 68 = dktX1_isBalanced_3 := dk_seg dksX1_isBalanced_2 23 rfl rfl
theorem dksX1_isBalanced_4 : cX1_isBalanced.data.toList.drop 92 = dktX1_isBalanced_4 := dk_seg dksX1_isBalanced_3 24 rfl rfl
theorem dX1_isBalanced_0 : decode cX1_isBalanced 0 = .ok (.aload_n 0, 1) := dk_42 (dk_at dksX1_isBalanced_0 0 rfl rfl)
theorem dX1_isBalanced_1 : decode cX1_isBalanced 1 = .ok (.aload_n 1, 1) := dk_43 (dk_at dksX1_isBalanced_0 1 rfl rfl)
theorem dX1_isBalanced_2 : decode cX1_isBalanced 2 = .ok (.invokevirtual 145, 3) := dk_182 0 145 (dk_at dksX1_isBalanced_0 2 rfl rfl)
theorem dX1_isBalanced_5 : decode cX1_isBalanced 5 = .ok (.astore_n 2, 1) := dk_77 (dk_at dksX1_isBalanced_0 5 rfl rfl)
theorem dX1_isBalanced_6 : decode cX1_isBalanced 6 = .ok (.aload_n 0, 1) := dk_42 (dk_at dksX1_isBalanced_0 6 rfl rfl)
theorem dX1_isBalanced_7 : decode cX1_isBalanced 7 = .ok (.invokevirtual 149, 3) := dk_182 0 149 (dk_at dksX1_isBalanced_0 7 rfl rfl)
theorem dX1_isBalanced_10 : decode cX1_isBalanced 10 = .ok (.aload_n 0, 1) := dk_42 (dk_at dksX1_isBalanced_0 10 rfl rfl)
theorem dX1_isBalanced_11 : decode cX1_isBalanced 11 = .ok (.getfield 23, 3) := dk_180 0 23 (dk_at dksX1_isBalanced_0 11 rfl rfl)
theorem dX1_isBalanced_14 : decode cX1_isBalanced 14 = .ok (.aload_n 0, 1) := dk_42 (dk_at dksX1_isBalanced_0 14 rfl rfl)
theorem dX1_isBalanced_15 : decode cX1_isBalanced 15 = .ok (.getfield 27, 3) := dk_180 0 27 (dk_at dksX1_isBalanced_0 15 rfl rfl)
theorem dX1_isBalanced_18 : decode cX1_isBalanced 18 = .ok (.isub, 1) := dk_100 (dk_at dksX1_isBalanced_0 18 rfl rfl)
theorem dX1_isBalanced_19 : decode cX1_isBalanced 19 = .ok (.if_icmp .ne 7, 3) := dk_160 0 7 (dk_at dksX1_isBalanced_0 19 rfl rfl)
theorem dX1_isBalanced_22 : decode cX1_isBalanced 22 = .ok (.iconst 1, 1) := dk_4 (dk_at dksX1_isBalanced_0 22 rfl rfl)
theorem dX1_isBalanced_23 : decode cX1_isBalanced 23 = .ok (.goto 4, 3) := dk_167 0 4 (dk_at dksX1_isBalanced_1 0 rfl rfl)
theorem dX1_isBalanced_26 : decode cX1_isBalanced 26 = .ok (.iconst 0, 1) := dk_3 (dk_at dksX1_isBalanced_1 3 rfl rfl)
theorem dX1_isBalanced_27 : decode cX1_isBalanced 27 = .ok (.istore_n 3, 1) := dk_62 (dk_at dksX1_isBalanced_1 4 rfl rfl)
theorem dX1_isBalanced_28 : decode cX1_isBalanced 28 = .ok (.iconst 0, 1) := dk_3 (dk_at dksX1_isBalanced_1 5 rfl rfl)
theorem dX1_isBalanced_29 : decode cX1_isBalanced 29 = .ok (.istore 4, 2) := dk_54 4 (dk_at dksX1_isBalanced_1 6 rfl rfl)
theorem dX1_isBalanced_31 : decode cX1_isBalanced 31 = .ok (.iload 4, 2) := dk_21 4 (dk_at dksX1_isBalanced_1 8 rfl rfl)
theorem dX1_isBalanced_33 : decode cX1_isBalanced 33 = .ok (.iconst 4, 1) := dk_7 (dk_at dksX1_isBalanced_1 10 rfl rfl)
theorem dX1_isBalanced_34 : decode cX1_isBalanced 34 = .ok (.if_icmp .gt 74, 3) := dk_163 0 74 (dk_at dksX1_isBalanced_1 11 rfl rfl)
theorem dX1_isBalanced_37 : decode cX1_isBalanced 37 = .ok (.iload 4, 2) := dk_21 4 (dk_at dksX1_isBalanced_1 14 rfl rfl)
theorem dX1_isBalanced_39 : decode cX1_isBalanced 39 = .ok (.iconst 4, 1) := dk_7 (dk_at dksX1_isBalanced_1 16 rfl rfl)
theorem dX1_isBalanced_40 : decode cX1_isBalanced 40 = .ok (.if_icmp .ne 8, 3) := dk_160 0 8 (dk_at dksX1_isBalanced_1 17 rfl rfl)
theorem dX1_isBalanced_43 : decode cX1_isBalanced 43 = .ok (.ldc 151, 2) := dk_18 151 (dk_at dksX1_isBalanced_1 20 rfl rfl)
theorem dX1_isBalanced_45 : decode cX1_isBalanced 45 = .ok (.goto 29, 3) := dk_167 0 29 (dk_at dksX1_isBalanced_2 0 rfl rfl)
theorem dX1_isBalanced_48 : decode cX1_isBalanced 48 = .ok (.new 153, 3) := dk_187 0 153 (dk_at dksX1_isBalanced_2 3 rfl rfl)
theorem dX1_isBalanced_51 : decode cX1_isBalanced 51 = .ok (.dup, 1) := dk_89 (dk_at dksX1_isBalanced_2 6 rfl rfl)
theorem dX1_isBalanced_52 : decode cX1_isBalanced 52 = .ok (.invokespecial 155, 3) := dk_183 0 155 (dk_at dksX1_isBalanced_2 7 rfl rfl)
theorem dX1_isBalanced_55 : decode cX1_isBalanced 55 = .ok (.ldc 151, 2) := dk_18 151 (dk_at dksX1_isBalanced_2 10 rfl rfl)
theorem dX1_isBalanced_57 : decode cX1_isBalanced 57 = .ok (.invokevirtual 156, 3) := dk_182 0 156 (dk_at dksX1_isBalanced_2 12 rfl rfl)
theorem dX1_isBalanced_60 : decode cX1_isBalanced 60 = .ok (.iload 4, 2) := dk_21 4 (dk_at dksX1_isBalanced_2 15 rfl rfl)
theorem dX1_isBalanced_62 : decode cX1_isBalanced 62 = .ok (.invokestatic 160, 3) := dk_184 0 160 (dk_at dksX1_isBalanced_2 17 rfl rfl)
theorem dX1_isBalanced_65 : decode cX1_isBalanced 65 = .ok (.invokevirtual 164, 3) := dk_182 0 164 (dk_at dksX1_isBalanced_2 20 rfl rfl)
theorem dX1_isBalanced_68 : decode cX1_isBalanced 68 = .ok (.invokevirtual 170, 3) := dk_182 0 170 (dk_at dksX1_isBalanced_3 0 rfl rfl)
theorem dX1_isBalanced_71 : decode cX1_isBalanced 71 = .ok (.invokevirtual 173, 3) := dk_182 0 173 (dk_at dksX1_isBalanced_3 3 rfl rfl)
theorem dX1_isBalanced_74 : decode cX1_isBalanced 74 = .ok (.astore 5, 2) := dk_58 5 (dk_at dksX1_isBalanced_3 6 rfl rfl)
theorem dX1_isBalanced_76 : decode cX1_isBalanced 76 = .ok (.iload_n 3, 1) := dk_29 (dk_at dksX1_isBalanced_3 8 rfl rfl)
theorem dX1_isBalanced_77 : decode cX1_isBalanced 77 = .ok (.aload_n 2, 1) := dk_44 (dk_at dksX1_isBalanced_3 9 rfl rfl)
theorem dX1_isBalanced_78 : decode cX1_isBalanced 78 = .ok (.aload 5, 2) := dk_25 5 (dk_at dksX1_isBalanced_3 10 rfl rfl)
theorem dX1_isBalanced_80 : decode cX1_isBalanced 80 = .ok (.invokevirtual 177, 3) := dk_182 0 177 (dk_at dksX1_isBalanced_3 12 rfl rfl)
theorem dX1_isBalanced_83 : decode cX1_isBalanced 83 = .ok (.invokestatic 181, 3) := dk_184 0 181 (dk_at dksX1_isBalanced_3 15 rfl rfl)
theorem dX1_isBalanced_86 : decode cX1_isBalanced 86 = .ok (.aload_n 0, 1) := dk_42 (dk_at dksX1_isBalanced_3 18 rfl rfl)
theorem dX1_isBalanced_87 : decode cX1_isBalanced 87 = .ok (.aload 5, 2) := dk_25 5 (dk_at dksX1_isBalanced_3 19 rfl rfl)
theorem dX1_isBalanced_89 : decode cX1_isBalanced 89 = .ok (.invokevirtual 185, 3) := dk_182 0 185 (dk_at dksX1_isBalanced_3 21 rfl rfl)
theorem dX1_isBalanced_92 : decode cX1_isBalanced 92 = .ok (.if_icmp .ne 7, 3) := dk_160 0 7 (dk_at dksX1_isBalanced_4 0 rfl rfl)
theorem dX1_isBalanced_95 : decode cX1_isBalanced 95 = .ok (.iconst 1, 1) := dk_4 (dk_at dksX1_isBalanced_4 3 rfl rfl)
theorem dX1_isBalanced_96 : decode cX1_isBalanced 96 = .ok (.goto 4, 3) := dk_167 0 4 (dk_at dksX1_isBalanced_4 4 rfl rfl)
theorem dX1_isBalanced_99 : decode cX1_isBalanced 99 = .ok (.iconst 0, 1) := dk_3 (dk_at dksX1_isBalanced_4 7 rfl rfl)
theorem dX1_isBalanced_100 : decode cX1_isBalanced 100 = .ok (.iand, 1) := dk_126 (dk_at dksX1_isBalanced_4 8 rfl rfl)
theorem dX1_isBalanced_101 : decode cX1_isBalanced 101 = .ok (.istore_n 3, 1) := dk_62 (dk_at dksX1_isBalanced_4 9 rfl rfl)
theorem dX1_isBalanced_102 : decode cX1_isBalanced 102 = .ok (.iinc 4 1, 3) := dk_132 4 1 (dk_at dksX1_isBalanced_4 10 rfl rfl)
theorem dX1_isBalanced_105 : decode cX1_isBalanced 105 = .ok (.goto (-74), 3) := dk_167 255 182 (dk_at dksX1_isBalanced_4 13 rfl rfl)
theorem dX1_isBalanced_108 : decode cX1_isBalanced 108 = .ok (.iload_n 3, 1) := dk_29 (dk_at dksX1_isBalanced_4 16 rfl rfl)
theorem dX1_isBalanced_109 : decode cX1_isBalanced 109 = .ok (.ireturn, 1) := dk_172 (dk_at dksX1_isBalanced_4 17 rfl rfl)
abbrev cX1_arcs : ByteArray := prog_4_method_9_code
def yX1_arcs : MethodName := ⟨RX1, "arcs", "()I"⟩
def dkwX1_arcs_1 : List UInt8 := [96, 172]
abbrev dktX1_arcs_1 : List UInt8 := dkwX1_arcs_1 ++ []
def dkwX1_arcs_0 : List UInt8 := [42, 180, 0, 11, 3, 50, 180, 0, 59, 182, 0, 63, 42, 180, 0, 11, 4, 50, 180, 0, 59, 182, 0, 63]
abbrev dktX1_arcs_0 : List UInt8 := dkwX1_arcs_0 ++ dktX1_arcs_1
theorem dksX1_arcs_0 : cX1_arcs.data.toList.drop 0 = dktX1_arcs_0 := by decide +kernel
theorem dksX1_arcs_1 : cX1_arcs.data.toList.drop 24 = dktX1_arcs_1 := dk_seg dksX1_arcs_0 24 rfl rfl
theorem dX1_arcs_0 : decode cX1_arcs 0 = .ok (.aload_n 0, 1) := dk_42 (dk_at dksX1_arcs_0 0 rfl rfl)
theorem dX1_arcs_1 : decode cX1_arcs 1 = .ok (.getfield 11, 3) := dk_180 0 11 (dk_at dksX1_arcs_0 1 rfl rfl)
theorem dX1_arcs_4 : decode cX1_arcs 4 = .ok (.iconst 0, 1) := dk_3 (dk_at dksX1_arcs_0 4 rfl rfl)
theorem dX1_arcs_5 : decode cX1_arcs 5 = .ok (.aaload, 1) := dk_50 (dk_at dksX1_arcs_0 5 rfl rfl)
theorem dX1_arcs_6 : decode cX1_arcs 6 = .ok (.getfield 59, 3) := dk_180 0 59 (dk_at dksX1_arcs_0 6 rfl rfl)
theorem dX1_arcs_9 : decode cX1_arcs 9 = .ok (.invokevirtual 63, 3) := dk_182 0 63 (dk_at dksX1_arcs_0 9 rfl rfl)
theorem dX1_arcs_12 : decode cX1_arcs 12 = .ok (.aload_n 0, 1) := dk_42 (dk_at dksX1_arcs_0 12 rfl rfl)
theorem dX1_arcs_13 : decode cX1_arcs 13 = .ok (.getfield 11, 3) := dk_180 0 11 (dk_at dksX1_arcs_0 13 rfl rfl)
theorem dX1_arcs_16 : decode cX1_arcs 16 = .ok (.iconst 1, 1) := dk_4 (dk_at dksX1_arcs_0 16 rfl rfl)
theorem dX1_arcs_17 : decode cX1_arcs 17 = .ok (.aaload, 1) := dk_50 (dk_at dksX1_arcs_0 17 rfl rfl)
theorem dX1_arcs_18 : decode cX1_arcs 18 = .ok (.getfield 59, 3) := dk_180 0 59 (dk_at dksX1_arcs_0 18 rfl rfl)
theorem dX1_arcs_21 : decode cX1_arcs 21 = .ok (.invokevirtual 63, 3) := dk_182 0 63 (dk_at dksX1_arcs_0 21 rfl rfl)
theorem dX1_arcs_24 : decode cX1_arcs 24 = .ok (.iadd, 1) := dk_96 (dk_at dksX1_arcs_1 0 rfl rfl)
theorem dX1_arcs_25 : decode cX1_arcs 25 = .ok (.ireturn, 1) := dk_172 (dk_at dksX1_arcs_1 1 rfl rfl)
theorem q77 : (Jvm.Cond.initialized "ChantRules$Choir") ∈ lw_all := lw_g (lw_at lw_m1 2 rfl) rfl
theorem q127 : (Jvm.Cond.instantiable "ChantRules$Choir" (4 : Nat)) ∈ lw_all := lw_g (lw_at lw_m1 52 rfl) rfl
theorem q129 : (Jvm.Cond.instanceMethod ({ cls := "ChantRules$Choir", name := "<init>", desc := "()V" } : Jvm.MethodName)) ∈ lw_all := lw_g (lw_at lw_m1 54 rfl) rfl
theorem q130 : (Jvm.Cond.code ({ cls := "ChantRules$Choir", name := "<init>", desc := "()V" } : Jvm.MethodName) prog_4_method_1_code (2 : Nat) (Option.none : Option Jvm.ClassFile.FieldType)) ∈ lw_all := lw_g (lw_at lw_m1 55 rfl) rfl
theorem q131 : (Jvm.Cond.methodLink "ChantRules$Choir" (3 : Nat) ({ cls := "java/lang/Object", name := "<init>", desc := "()V" } : Jvm.MethodName)) ∈ lw_all := lw_g (lw_at lw_m1 56 rfl) rfl
theorem q132 : (Jvm.Cond.classLink "ChantRules$Choir" (9 : Nat) "ChantRules$Rule") ∈ lw_all := lw_g (lw_at lw_m1 57 rfl) rfl
theorem q135 : (Jvm.Cond.methodLink "ChantRules$Choir" (17 : Nat) ({ cls := "ChantRules$Rule", name := "<init>", desc := "()V" } : Jvm.MethodName)) ∈ lw_all := lw_g (lw_at lw_m1 60 rfl) rfl
theorem q177 : (Jvm.Cond.fieldLinkNest "ChantRules$Choir" (59 : Nat) "ChantRules$Rule" "arcs" "Ljava/util/ArrayList;" "ChantRules") ∈ lw_tbl := lw_at lw_m1 102 rfl
theorem q182 : (Jvm.Cond.fieldLinkNest "ChantRules$Choir" (71 : Nat) "ChantRules$Rule" "states" "I" "ChantRules") ∈ lw_tbl := lw_at lw_m1 107 rfl
theorem q192 : (Jvm.Cond.fieldLink "ChantRules$Choir" (11 : Nat) "ChantRules$Choir" "rules" "[LChantRules$Rule;") ∈ lw_all := lw_g (lw_at lw_m1 117 rfl) rfl
theorem q195 : (Jvm.Cond.fieldLink "ChantRules$Choir" (23 : Nat) "ChantRules$Choir" "told" "I") ∈ lw_all := lw_g (lw_at lw_m1 120 rfl) rfl
theorem q197 : (Jvm.Cond.fieldLink "ChantRules$Choir" (27 : Nat) "ChantRules$Choir" "dropped" "I") ∈ lw_all := lw_g (lw_at lw_m1 122 rfl) rfl
theorem q199 : (Jvm.Cond.fieldLink "ChantRules$Choir" (30 : Nat) "ChantRules$Choir" "turns" "I") ∈ lw_all := lw_g (lw_at lw_m1 124 rfl) rfl
theorem q201 : (Jvm.Cond.laysFinal "ChantRules$Choir" "ChantRules$Choir" "rules" "[LChantRules$Rule;") ∈ lw_all := lw_g (lw_at lw_m1 126 rfl) rfl
theorem q202 : (Jvm.Cond.soleField "ChantRules$Choir" "rules") ∈ lw_all := lw_g (lw_at lw_m1 127 rfl) rfl
theorem q203 : (Jvm.Cond.lays "ChantRules$Choir" "ChantRules$Choir" "told" "I") ∈ lw_all := lw_g (lw_at lw_m1 128 rfl) rfl
theorem q204 : (Jvm.Cond.soleField "ChantRules$Choir" "told") ∈ lw_all := lw_g (lw_at lw_m1 129 rfl) rfl
theorem q205 : (Jvm.Cond.lays "ChantRules$Choir" "ChantRules$Choir" "dropped" "I") ∈ lw_all := lw_g (lw_at lw_m1 130 rfl) rfl
theorem q206 : (Jvm.Cond.soleField "ChantRules$Choir" "dropped") ∈ lw_all := lw_g (lw_at lw_m1 131 rfl) rfl
theorem q207 : (Jvm.Cond.lays "ChantRules$Choir" "ChantRules$Choir" "turns" "I") ∈ lw_all := lw_g (lw_at lw_m1 132 rfl) rfl
theorem q208 : (Jvm.Cond.soleField "ChantRules$Choir" "turns") ∈ lw_all := lw_g (lw_at lw_m1 133 rfl) rfl
theorem q209 : (Jvm.Cond.superclass "ChantRules$Choir" "java/lang/Object") ∈ lw_all := lw_g (lw_at lw_m1 134 rfl) rfl
theorem q343 : (Jvm.Cond.instanceMethod ({ cls := "ChantRules$Choir", name := "copy", desc := "()LChantRules$Choir;" } : Jvm.MethodName)) ∈ lw_all := lw_g (lw_at lw_m2 28 rfl) rfl
theorem q344 : (Jvm.Cond.selects "ChantRules$Choir" ({ cls := "ChantRules$Choir", name := "copy", desc := "()LChantRules$Choir;" } : Jvm.MethodName) ({ cls := "ChantRules$Choir", name := "copy", desc := "()LChantRules$Choir;" } : Jvm.MethodName)) ∈ lw_all := lw_g (lw_at lw_m2 29 rfl) rfl
theorem q345 : (Jvm.Cond.code ({ cls := "ChantRules$Choir", name := "copy", desc := "()LChantRules$Choir;" } : Jvm.MethodName) prog_4_method_2_code (3 : Nat) (Option.some (Jvm.ClassFile.FieldType.object "ChantRules$Choir"))) ∈ lw_all := lw_g (lw_at lw_m2 30 rfl) rfl
theorem q346 : (Jvm.Cond.classLink "ChantRules$Choir" (12 : Nat) "ChantRules$Choir") ∈ lw_all := lw_g (lw_at lw_m2 31 rfl) rfl
theorem q347 : (Jvm.Cond.methodLink "ChantRules$Choir" (18 : Nat) ({ cls := "ChantRules$Choir", name := "<init>", desc := "()V" } : Jvm.MethodName)) ∈ lw_all := lw_g (lw_at lw_m2 32 rfl) rfl
theorem q348 : (Jvm.Cond.methodLink "ChantRules$Choir" (19 : Nat) ({ cls := "ChantRules$Rule", name := "copy", desc := "()LChantRules$Rule;" } : Jvm.MethodName)) ∈ lw_all := lw_g (lw_at lw_m2 33 rfl) rfl
theorem q437 : (Jvm.Cond.selects "ChantRules$Choir" ({ cls := "java/lang/Object", name := "getClass", desc := "()Ljava/lang/Class;" } : Jvm.MethodName) ({ cls := "java/lang/Object", name := "getClass", desc := "()Ljava/lang/Class;" } : Jvm.MethodName)) ∈ lw_all := lw_g (lw_at lw_m2 122 rfl) rfl
theorem q603 : (Jvm.Cond.instanceMethod ({ cls := "ChantRules$Choir", name := "isState", desc := "(II)Z" } : Jvm.MethodName)) ∈ lw_all := lw_g (lw_at lw_m3 48 rfl) rfl
theorem q604 : (Jvm.Cond.selects "ChantRules$Choir" ({ cls := "ChantRules$Choir", name := "isState", desc := "(II)Z" } : Jvm.MethodName) ({ cls := "ChantRules$Choir", name := "isState", desc := "(II)Z" } : Jvm.MethodName)) ∈ lw_all := lw_g (lw_at lw_m3 49 rfl) rfl
theorem q605 : (Jvm.Cond.code ({ cls := "ChantRules$Choir", name := "isState", desc := "(II)Z" } : Jvm.MethodName) prog_4_method_3_code (3 : Nat) (Option.some Jvm.ClassFile.FieldType.boolean)) ∈ lw_all := lw_g (lw_at lw_m3 50 rfl) rfl
theorem q606 : (Jvm.Cond.methodLinkNest "ChantRules$Choir" (33 : Nat) ({ cls := "ChantRules", name := "isRule", desc := "(I)Z" } : Jvm.MethodName) "ChantRules") ∈ lw_tbl := lw_at lw_m3 51 rfl
theorem q607 : (Jvm.Cond.methodLink "ChantRules$Choir" (37 : Nat) ({ cls := "ChantRules$Rule", name := "isState", desc := "(I)Z" } : Jvm.MethodName)) ∈ lw_all := lw_g (lw_at lw_m3 52 rfl) rfl
theorem q666 : (Jvm.Cond.fieldLinkNest "ChantRules$Choir" (131 : Nat) "ChantRules$Heard" "letter" "I" "ChantRules") ∈ lw_tbl := lw_at lw_m3 111 rfl
theorem q681 : (Jvm.Cond.instanceMethod ({ cls := "ChantRules$Choir", name := "tells", desc := "(ILChantRules$Arc;)I" } : Jvm.MethodName)) ∈ lw_all := lw_g (lw_at lw_m3 126 rfl) rfl
theorem q682 : (Jvm.Cond.selects "ChantRules$Choir" ({ cls := "ChantRules$Choir", name := "tells", desc := "(ILChantRules$Arc;)I" } : Jvm.MethodName) ({ cls := "ChantRules$Choir", name := "tells", desc := "(ILChantRules$Arc;)I" } : Jvm.MethodName)) ∈ lw_all := lw_g (lw_at lw_m3 127 rfl) rfl
theorem q683 : (Jvm.Cond.code ({ cls := "ChantRules$Choir", name := "tells", desc := "(ILChantRules$Arc;)I" } : Jvm.MethodName) prog_4_method_5_code (4 : Nat) (Option.some Jvm.ClassFile.FieldType.int)) ∈ lw_all := lw_g (lw_at lw_m3 128 rfl) rfl
theorem q684 : (Jvm.Cond.methodLink "ChantRules$Choir" (43 : Nat) ({ cls := "ChantRules$Rule", name := "tells", desc := "(LChantRules$Arc;)I" } : Jvm.MethodName)) ∈ lw_all := lw_g (lw_at lw_m3 129 rfl) rfl
theorem q756 : (Jvm.Cond.instanceMethod ({ cls := "ChantRules$Choir", name := "isArc", desc := "(II)Z" } : Jvm.MethodName)) ∈ lw_all := lw_g (lw_at lw_m3 201 rfl) rfl
theorem q757 : (Jvm.Cond.selects "ChantRules$Choir" ({ cls := "ChantRules$Choir", name := "isArc", desc := "(II)Z" } : Jvm.MethodName) ({ cls := "ChantRules$Choir", name := "isArc", desc := "(II)Z" } : Jvm.MethodName)) ∈ lw_all := lw_g (lw_at lw_m3 202 rfl) rfl
theorem q758 : (Jvm.Cond.code ({ cls := "ChantRules$Choir", name := "isArc", desc := "(II)Z" } : Jvm.MethodName) prog_4_method_4_code (3 : Nat) (Option.some Jvm.ClassFile.FieldType.boolean)) ∈ lw_all := lw_g (lw_at lw_m3 203 rfl) rfl
theorem q759 : (Jvm.Cond.methodLink "ChantRules$Choir" (40 : Nat) ({ cls := "ChantRules$Rule", name := "isArc", desc := "(I)Z" } : Jvm.MethodName)) ∈ lw_all := lw_g (lw_at lw_m3 204 rfl) rfl
theorem q793 : (Jvm.Cond.instanceMethod ({ cls := "ChantRules$Choir", name := "drops", desc := "(II)I" } : Jvm.MethodName)) ∈ lw_all := lw_g (lw_at lw_m3 238 rfl) rfl
theorem q794 : (Jvm.Cond.selects "ChantRules$Choir" ({ cls := "ChantRules$Choir", name := "drops", desc := "(II)I" } : Jvm.MethodName) ({ cls := "ChantRules$Choir", name := "drops", desc := "(II)I" } : Jvm.MethodName)) ∈ lw_all := lw_g (lw_at lw_m3 239 rfl) rfl
theorem q795 : (Jvm.Cond.code ({ cls := "ChantRules$Choir", name := "drops", desc := "(II)I" } : Jvm.MethodName) prog_4_method_6_code (4 : Nat) (Option.some Jvm.ClassFile.FieldType.int)) ∈ lw_all := lw_g (lw_at lw_m4 0 rfl) rfl
theorem q796 : (Jvm.Cond.methodLink "ChantRules$Choir" (47 : Nat) ({ cls := "ChantRules$Rule", name := "drops", desc := "(I)I" } : Jvm.MethodName)) ∈ lw_all := lw_g (lw_at lw_m4 1 rfl) rfl
theorem q814 : (Jvm.Cond.instanceMethod ({ cls := "ChantRules$Choir", name := "turns", desc := "(I)I" } : Jvm.MethodName)) ∈ lw_all := lw_g (lw_at lw_m4 19 rfl) rfl
theorem q815 : (Jvm.Cond.selects "ChantRules$Choir" ({ cls := "ChantRules$Choir", name := "turns", desc := "(I)I" } : Jvm.MethodName) ({ cls := "ChantRules$Choir", name := "turns", desc := "(I)I" } : Jvm.MethodName)) ∈ lw_all := lw_g (lw_at lw_m4 20 rfl) rfl
theorem q816 : (Jvm.Cond.code ({ cls := "ChantRules$Choir", name := "turns", desc := "(I)I" } : Jvm.MethodName) prog_4_method_7_code (3 : Nat) (Option.some Jvm.ClassFile.FieldType.int)) ∈ lw_all := lw_g (lw_at lw_m4 21 rfl) rfl
theorem q817 : (Jvm.Cond.methodLink "ChantRules$Choir" (51 : Nat) ({ cls := "ChantRules$Rule", name := "turns", desc := "()I" } : Jvm.MethodName)) ∈ lw_all := lw_g (lw_at lw_m4 22 rfl) rfl
theorem q1242 : (Jvm.Cond.instanceMethod ({ cls := "ChantRules$Choir", name := "composed", desc := "([LChantRules$Test;)LChantRules$Composed;" } : Jvm.MethodName)) ∈ lw_all := lw_g (lw_at lw_m5 207 rfl) rfl
theorem q1243 : (Jvm.Cond.selects "ChantRules$Choir" ({ cls := "ChantRules$Choir", name := "composed", desc := "([LChantRules$Test;)LChantRules$Composed;" } : Jvm.MethodName) ({ cls := "ChantRules$Choir", name := "composed", desc := "([LChantRules$Test;)LChantRules$Composed;" } : Jvm.MethodName)) ∈ lw_all := lw_g (lw_at lw_m5 208 rfl) rfl
theorem q1244 : (Jvm.Cond.code ({ cls := "ChantRules$Choir", name := "composed", desc := "([LChantRules$Test;)LChantRules$Composed;" } : Jvm.MethodName) prog_4_method_8_code (2 : Nat) (Option.some (Jvm.ClassFile.FieldType.object "ChantRules$Composed"))) ∈ lw_all := lw_g (lw_at lw_m5 209 rfl) rfl
theorem q1245 : (Jvm.Cond.classLink "ChantRules$Choir" (54 : Nat) "ChantRules$Composed") ∈ lw_all := lw_g (lw_at lw_m5 210 rfl) rfl
theorem q1247 : (Jvm.Cond.methodLink "ChantRules$Choir" (56 : Nat) ({ cls := "ChantRules$Composed", name := "<init>", desc := "(LChantRules$Rule;LChantRules$Rule;[LChantRules$Test;)V" } : Jvm.MethodName)) ∈ lw_all := lw_g (lw_at lw_m5 212 rfl) rfl
theorem q1306 : (Jvm.Cond.instanceMethod ({ cls := "ChantRules$Choir", name := "bothAgain", desc := "(Ljava/lang/CharSequence;)I" } : Jvm.MethodName)) ∈ lw_all := lw_g (lw_at lw_m6 31 rfl) rfl
theorem q1307 : (Jvm.Cond.selects "ChantRules$Choir" ({ cls := "ChantRules$Choir", name := "bothAgain", desc := "(Ljava/lang/CharSequence;)I" } : Jvm.MethodName) ({ cls := "ChantRules$Choir", name := "bothAgain", desc := "(Ljava/lang/CharSequence;)I" } : Jvm.MethodName)) ∈ lw_all := lw_g (lw_at lw_m6 32 rfl) rfl
theorem q1308 : (Jvm.Cond.code ({ cls := "ChantRules$Choir", name := "bothAgain", desc := "(Ljava/lang/CharSequence;)I" } : Jvm.MethodName) prog_4_method_15_code (9 : Nat) (Option.some Jvm.ClassFile.FieldType.int)) ∈ lw_all := lw_g (lw_at lw_m6 33 rfl) rfl
theorem q1309 : (Jvm.Cond.interfaceEntry "ChantRules$Choir" (119 : Nat)) ∈ lw_tbl := lw_at lw_m6 34 rfl
theorem q1310 : (Jvm.Cond.methodLink "ChantRules$Choir" (119 : Nat) ({ cls := "java/lang/CharSequence", name := "length", desc := "()I" } : Jvm.MethodName)) ∈ lw_all := lw_g (lw_at lw_m6 35 rfl) rfl
theorem q1311 : (Jvm.Cond.constant "ChantRules$Choir" (124 : Nat) (1000000 : Int32)) ∈ lw_all := lw_g (lw_at lw_m6 36 rfl) rfl
theorem q1312 : (Jvm.Cond.methodLink "ChantRules$Choir" (125 : Nat) ({ cls := "ChantRules$Choir", name := "breathes", desc := "([II)V" } : Jvm.MethodName)) ∈ lw_all := lw_g (lw_at lw_m6 37 rfl) rfl
theorem q1313 : (Jvm.Cond.privateMethod ({ cls := "ChantRules$Choir", name := "breathes", desc := "([II)V" } : Jvm.MethodName)) ∈ lw_tbl := lw_at lw_m6 38 rfl
theorem q1314 : (Jvm.Cond.instanceMethod ({ cls := "ChantRules$Choir", name := "breathes", desc := "([II)V" } : Jvm.MethodName)) ∈ lw_all := lw_g (lw_at lw_m6 39 rfl) rfl
theorem q1315 : (Jvm.Cond.code ({ cls := "ChantRules$Choir", name := "breathes", desc := "([II)V" } : Jvm.MethodName) prog_4_method_14_code (4 : Nat) (Option.none : Option Jvm.ClassFile.FieldType)) ∈ lw_all := lw_g (lw_at lw_m6 40 rfl) rfl
theorem q1316 : (Jvm.Cond.methodLink "ChantRules$Choir" (115 : Nat) ({ cls := "ChantRules$Choir", name := "breathesOnce", desc := "([II)Z" } : Jvm.MethodName)) ∈ lw_all := lw_g (lw_at lw_m6 41 rfl) rfl
theorem q1317 : (Jvm.Cond.privateMethod ({ cls := "ChantRules$Choir", name := "breathesOnce", desc := "([II)Z" } : Jvm.MethodName)) ∈ lw_tbl := lw_at lw_m6 42 rfl
theorem q1318 : (Jvm.Cond.instanceMethod ({ cls := "ChantRules$Choir", name := "breathesOnce", desc := "([II)Z" } : Jvm.MethodName)) ∈ lw_all := lw_g (lw_at lw_m6 43 rfl) rfl
theorem q1319 : (Jvm.Cond.code ({ cls := "ChantRules$Choir", name := "breathesOnce", desc := "([II)Z" } : Jvm.MethodName) prog_4_method_13_code (8 : Nat) (Option.some Jvm.ClassFile.FieldType.boolean)) ∈ lw_all := lw_g (lw_at lw_m6 44 rfl) rfl
theorem q1320 : (Jvm.Cond.methodLink "ChantRules$Choir" (92 : Nat) ({ cls := "java/util/ArrayList", name := "iterator", desc := "()Ljava/util/Iterator;" } : Jvm.MethodName)) ∈ lw_all := lw_g (lw_at lw_m6 45 rfl) rfl
theorem q1321 : (Jvm.Cond.interfaceEntry "ChantRules$Choir" (96 : Nat)) ∈ lw_tbl := lw_at lw_m6 46 rfl
theorem q1322 : (Jvm.Cond.methodLink "ChantRules$Choir" (96 : Nat) ({ cls := "java/util/Iterator", name := "hasNext", desc := "()Z" } : Jvm.MethodName)) ∈ lw_all := lw_g (lw_at lw_m6 47 rfl) rfl
theorem q1323 : (Jvm.Cond.interfaceEntry "ChantRules$Choir" (102 : Nat)) ∈ lw_tbl := lw_at lw_m6 48 rfl
theorem q1324 : (Jvm.Cond.methodLink "ChantRules$Choir" (102 : Nat) ({ cls := "java/util/Iterator", name := "next", desc := "()Ljava/lang/Object;" } : Jvm.MethodName)) ∈ lw_all := lw_g (lw_at lw_m6 49 rfl) rfl
theorem q1325 : (Jvm.Cond.classLink "ChantRules$Choir" (75 : Nat) "ChantRules$Arc") ∈ lw_all := lw_g (lw_at lw_m6 50 rfl) rfl
theorem q1326 : (Jvm.Cond.classLink "ChantRules$Choir" (109 : Nat) "ChantRules$Breathed") ∈ lw_all := lw_g (lw_at lw_m6 51 rfl) rfl
theorem q1327 : (Jvm.Cond.methodLink "ChantRules$Choir" (111 : Nat) ({ cls := "ChantRules$Choir", name := "goes", desc := "([ILChantRules$Arc;II)Z" } : Jvm.MethodName)) ∈ lw_all := lw_g (lw_at lw_m6 52 rfl) rfl
theorem q1328 : (Jvm.Cond.privateMethod ({ cls := "ChantRules$Choir", name := "goes", desc := "([ILChantRules$Arc;II)Z" } : Jvm.MethodName)) ∈ lw_tbl := lw_at lw_m6 53 rfl
theorem q1329 : (Jvm.Cond.instanceMethod ({ cls := "ChantRules$Choir", name := "goes", desc := "([ILChantRules$Arc;II)Z" } : Jvm.MethodName)) ∈ lw_all := lw_g (lw_at lw_m6 54 rfl) rfl
theorem q1330 : (Jvm.Cond.code ({ cls := "ChantRules$Choir", name := "goes", desc := "([ILChantRules$Arc;II)Z" } : Jvm.MethodName) prog_4_method_12_code (10 : Nat) (Option.some Jvm.ClassFile.FieldType.boolean)) ∈ lw_all := lw_g (lw_at lw_m6 55 rfl) rfl
theorem q1331 : (Jvm.Cond.interfaceEntry "ChantRules$Choir" (74 : Nat)) ∈ lw_tbl := lw_at lw_m6 56 rfl
theorem q1332 : (Jvm.Cond.methodLink "ChantRules$Choir" (74 : Nat) ({ cls := "ChantRules$Arc", name := "sings", desc := "()I" } : Jvm.MethodName)) ∈ lw_all := lw_g (lw_at lw_m6 57 rfl) rfl
theorem q1333 : (Jvm.Cond.interfaceEntry "ChantRules$Choir" (79 : Nat)) ∈ lw_tbl := lw_at lw_m6 58 rfl
theorem q1334 : (Jvm.Cond.methodLink "ChantRules$Choir" (79 : Nat) ({ cls := "ChantRules$Arc", name := "from", desc := "()I" } : Jvm.MethodName)) ∈ lw_all := lw_g (lw_at lw_m6 59 rfl) rfl
theorem q1335 : (Jvm.Cond.interfaceEntry "ChantRules$Choir" (82 : Nat)) ∈ lw_tbl := lw_at lw_m6 60 rfl
theorem q1336 : (Jvm.Cond.methodLink "ChantRules$Choir" (82 : Nat) ({ cls := "ChantRules$Arc", name := "to", desc := "()I" } : Jvm.MethodName)) ∈ lw_all := lw_g (lw_at lw_m6 61 rfl) rfl
theorem q1337 : (Jvm.Cond.interfaceEntry "ChantRules$Choir" (85 : Nat)) ∈ lw_tbl := lw_at lw_m6 62 rfl
theorem q1338 : (Jvm.Cond.methodLink "ChantRules$Choir" (85 : Nat) ({ cls := "ChantRules$Arc", name := "weight", desc := "()I" } : Jvm.MethodName)) ∈ lw_all := lw_g (lw_at lw_m6 63 rfl) rfl
theorem q1339 : (Jvm.Cond.methodLink "ChantRules$Choir" (88 : Nat) ({ cls := "ChantRules$Choir", name := "isLess", desc := "([IIII)Z" } : Jvm.MethodName)) ∈ lw_all := lw_g (lw_at lw_m6 64 rfl) rfl
theorem q1340 : (Jvm.Cond.privateMethod ({ cls := "ChantRules$Choir", name := "isLess", desc := "([IIII)Z" } : Jvm.MethodName)) ∈ lw_tbl := lw_at lw_m6 65 rfl
theorem q1341 : (Jvm.Cond.instanceMethod ({ cls := "ChantRules$Choir", name := "isLess", desc := "([IIII)Z" } : Jvm.MethodName)) ∈ lw_all := lw_g (lw_at lw_m6 66 rfl) rfl
theorem q1342 : (Jvm.Cond.code ({ cls := "ChantRules$Choir", name := "isLess", desc := "([IIII)Z" } : Jvm.MethodName) prog_4_method_11_code (6 : Nat) (Option.some Jvm.ClassFile.FieldType.boolean)) ∈ lw_all := lw_g (lw_at lw_m6 67 rfl) rfl
theorem q1343 : (Jvm.Cond.interfaceEntry "ChantRules$Choir" (106 : Nat)) ∈ lw_tbl := lw_at lw_m6 68 rfl
theorem q1344 : (Jvm.Cond.methodLink "ChantRules$Choir" (106 : Nat) ({ cls := "ChantRules$Arc", name := "hears", desc := "()I" } : Jvm.MethodName)) ∈ lw_all := lw_g (lw_at lw_m6 69 rfl) rfl
theorem q1345 : (Jvm.Cond.classLink "ChantRules$Choir" (129 : Nat) "ChantRules$Heard") ∈ lw_all := lw_g (lw_at lw_m6 70 rfl) rfl
theorem q1346 : (Jvm.Cond.interfaceEntry "ChantRules$Choir" (134 : Nat)) ∈ lw_tbl := lw_at lw_m6 71 rfl
theorem q1347 : (Jvm.Cond.methodLink "ChantRules$Choir" (134 : Nat) ({ cls := "java/lang/CharSequence", name := "charAt", desc := "(I)C" } : Jvm.MethodName)) ∈ lw_all := lw_g (lw_at lw_m6 72 rfl) rfl
theorem q1348 : (Jvm.Cond.methodLink "ChantRules$Choir" (138 : Nat) ({ cls := "ChantRules$Choir", name := "best", desc := "([II)I" } : Jvm.MethodName)) ∈ lw_all := lw_g (lw_at lw_m6 73 rfl) rfl
theorem q1349 : (Jvm.Cond.privateMethod ({ cls := "ChantRules$Choir", name := "best", desc := "([II)I" } : Jvm.MethodName)) ∈ lw_tbl := lw_at lw_m6 74 rfl
theorem q1350 : (Jvm.Cond.instanceMethod ({ cls := "ChantRules$Choir", name := "best", desc := "([II)I" } : Jvm.MethodName)) ∈ lw_all := lw_g (lw_at lw_m6 75 rfl) rfl
theorem q1351 : (Jvm.Cond.code ({ cls := "ChantRules$Choir", name := "best", desc := "([II)I" } : Jvm.MethodName) prog_4_method_16_code (8 : Nat) (Option.some Jvm.ClassFile.FieldType.int)) ∈ lw_all := lw_g (lw_at lw_m6 76 rfl) rfl
theorem q1352 : (Jvm.Cond.methodLink "ChantRules$Choir" (142 : Nat) ({ cls := "ChantRules$Rule", name := "end", desc := "(I)I" } : Jvm.MethodName)) ∈ lw_all := lw_g (lw_at lw_m6 77 rfl) rfl
theorem q1812 : (Jvm.Cond.instanceMethod ({ cls := "ChantRules$Choir", name := "weights", desc := "()I" } : Jvm.MethodName)) ∈ lw_all := lw_g (lw_at lw_m8 57 rfl) rfl
theorem q1813 : (Jvm.Cond.selects "ChantRules$Choir" ({ cls := "ChantRules$Choir", name := "weights", desc := "()I" } : Jvm.MethodName) ({ cls := "ChantRules$Choir", name := "weights", desc := "()I" } : Jvm.MethodName)) ∈ lw_all := lw_g (lw_at lw_m8 58 rfl) rfl
theorem q1814 : (Jvm.Cond.code ({ cls := "ChantRules$Choir", name := "weights", desc := "()I" } : Jvm.MethodName) prog_4_method_10_code (1 : Nat) (Option.some Jvm.ClassFile.FieldType.int)) ∈ lw_all := lw_g (lw_at lw_m8 59 rfl) rfl
theorem q1815 : (Jvm.Cond.methodLink "ChantRules$Choir" (68 : Nat) ({ cls := "ChantRules$Rule", name := "weights", desc := "()I" } : Jvm.MethodName)) ∈ lw_all := lw_g (lw_at lw_m8 60 rfl) rfl
theorem q1830 : (Jvm.Cond.instanceMethod ({ cls := "ChantRules$Choir", name := "isBalanced", desc := "([LChantRules$Test;)Z" } : Jvm.MethodName)) ∈ lw_all := lw_g (lw_at lw_m8 75 rfl) rfl
theorem q1831 : (Jvm.Cond.selects "ChantRules$Choir" ({ cls := "ChantRules$Choir", name := "isBalanced", desc := "([LChantRules$Test;)Z" } : Jvm.MethodName) ({ cls := "ChantRules$Choir", name := "isBalanced", desc := "([LChantRules$Test;)Z" } : Jvm.MethodName)) ∈ lw_all := lw_g (lw_at lw_m8 76 rfl) rfl
theorem q1832 : (Jvm.Cond.code ({ cls := "ChantRules$Choir", name := "isBalanced", desc := "([LChantRules$Test;)Z" } : Jvm.MethodName) prog_4_method_17_code (6 : Nat) (Option.some Jvm.ClassFile.FieldType.boolean)) ∈ lw_all := lw_g (lw_at lw_m8 77 rfl) rfl
theorem q1833 : (Jvm.Cond.methodLink "ChantRules$Choir" (145 : Nat) ({ cls := "ChantRules$Choir", name := "composed", desc := "([LChantRules$Test;)LChantRules$Composed;" } : Jvm.MethodName)) ∈ lw_all := lw_g (lw_at lw_m8 78 rfl) rfl
theorem q1834 : (Jvm.Cond.methodLink "ChantRules$Choir" (149 : Nat) ({ cls := "ChantRules$Choir", name := "arcs", desc := "()I" } : Jvm.MethodName)) ∈ lw_all := lw_g (lw_at lw_m8 79 rfl) rfl
theorem q1835 : (Jvm.Cond.instanceMethod ({ cls := "ChantRules$Choir", name := "arcs", desc := "()I" } : Jvm.MethodName)) ∈ lw_all := lw_g (lw_at lw_m8 80 rfl) rfl
theorem q1836 : (Jvm.Cond.selects "ChantRules$Choir" ({ cls := "ChantRules$Choir", name := "arcs", desc := "()I" } : Jvm.MethodName) ({ cls := "ChantRules$Choir", name := "arcs", desc := "()I" } : Jvm.MethodName)) ∈ lw_all := lw_g (lw_at lw_m8 81 rfl) rfl
theorem q1837 : (Jvm.Cond.code ({ cls := "ChantRules$Choir", name := "arcs", desc := "()I" } : Jvm.MethodName) prog_4_method_9_code (1 : Nat) (Option.some Jvm.ClassFile.FieldType.int)) ∈ lw_all := lw_g (lw_at lw_m8 82 rfl) rfl
theorem q1838 : (Jvm.Cond.methodLink "ChantRules$Choir" (63 : Nat) ({ cls := "java/util/ArrayList", name := "size", desc := "()I" } : Jvm.MethodName)) ∈ lw_all := lw_g (lw_at lw_m8 83 rfl) rfl
theorem q1839 : (Jvm.Cond.stringRef "ChantRules$Choir" (151 : Nat) "") ∈ lw_tbl := lw_at lw_m8 84 rfl
theorem q1840 : (Jvm.Cond.classLink "ChantRules$Choir" (153 : Nat) "java/lang/StringBuilder") ∈ lw_all := lw_g (lw_at lw_m8 85 rfl) rfl
theorem q1841 : (Jvm.Cond.methodLink "ChantRules$Choir" (155 : Nat) ({ cls := "java/lang/StringBuilder", name := "<init>", desc := "()V" } : Jvm.MethodName)) ∈ lw_all := lw_g (lw_at lw_m8 86 rfl) rfl
theorem q1842 : (Jvm.Cond.methodLink "ChantRules$Choir" (156 : Nat) ({ cls := "java/lang/StringBuilder", name := "append", desc := "(Ljava/lang/String;)Ljava/lang/StringBuilder;" } : Jvm.MethodName)) ∈ lw_all := lw_g (lw_at lw_m8 87 rfl) rfl
theorem q1843 : (Jvm.Cond.methodLinkNest "ChantRules$Choir" (160 : Nat) ({ cls := "ChantRules", name := "sound", desc := "(I)LChantRules$Sound;" } : Jvm.MethodName) "ChantRules") ∈ lw_tbl := lw_at lw_m8 88 rfl
theorem q1844 : (Jvm.Cond.methodLink "ChantRules$Choir" (164 : Nat) ({ cls := "ChantRules$Sound", name := "sign", desc := "()C" } : Jvm.MethodName)) ∈ lw_all := lw_g (lw_at lw_m8 89 rfl) rfl
theorem q1845 : (Jvm.Cond.methodLink "ChantRules$Choir" (170 : Nat) ({ cls := "java/lang/StringBuilder", name := "append", desc := "(C)Ljava/lang/StringBuilder;" } : Jvm.MethodName)) ∈ lw_all := lw_g (lw_at lw_m8 90 rfl) rfl
theorem q1846 : (Jvm.Cond.methodLink "ChantRules$Choir" (173 : Nat) ({ cls := "java/lang/StringBuilder", name := "toString", desc := "()Ljava/lang/String;" } : Jvm.MethodName)) ∈ lw_all := lw_g (lw_at lw_m8 91 rfl) rfl
theorem q1847 : (Jvm.Cond.methodLink "ChantRules$Choir" (177 : Nat) ({ cls := "ChantRules$Composed", name := "reads", desc := "(Ljava/lang/CharSequence;)LChantRules$Way;" } : Jvm.MethodName)) ∈ lw_all := lw_g (lw_at lw_m8 92 rfl) rfl
theorem q1848 : (Jvm.Cond.methodLinkNest "ChantRules$Choir" (181 : Nat) ({ cls := "ChantRules", name := "weightOf", desc := "(LChantRules$Way;)I" } : Jvm.MethodName) "ChantRules") ∈ lw_tbl := lw_at lw_m8 93 rfl
theorem q1849 : (Jvm.Cond.methodLink "ChantRules$Choir" (185 : Nat) ({ cls := "ChantRules$Choir", name := "bothAgain", desc := "(Ljava/lang/CharSequence;)I" } : Jvm.MethodName)) ∈ lw_all := lw_g (lw_at lw_m8 94 rfl) rfl
theorem q2367 : (Jvm.Cond.castable "ChantRules$Choir" "java/lang/Object") ∈ lw_tbl := lw_at lw_m10 132 rfl
theorem in_X1 : ∀ w ∈ wsX10, w ∈ lw_all := lw_in wsX10 [201, 203, 205, 207] (by decide +kernel) (by decide +kernel)
/-! ChantRules$Machine -/
set_option maxRecDepth 100000
def RX2 : String := "ChantRules$Machine"
abbrev cX2_init : ByteArray := prog_9_method_1_code
def yX2_init : MethodName := ⟨RX2, "<init>", "()V"⟩
theorem dX2_init_0 : decode cX2_init 0 = .ok (.aload_n 0, 1) := by decide +kernel
theorem dX2_init_1 : decode cX2_init 1 = .ok (.invokespecial 3, 3) := by decide +kernel
theorem dX2_init_4 : decode cX2_init 4 = .ok (.return_, 1) := by decide +kernel
abbrev cX2_reached : ByteArray := prog_9_method_9_code
def yX2_reached : MethodName := ⟨RX2, "reached", "()[Z"⟩
def dkwX2_reached_0 : List UInt8 := [42, 3, 3, 182, 0, 91, 176]
abbrev dktX2_reached_0 : List UInt8 := dkwX2_reached_0 ++ []
theorem dksX2_reached_0 : cX2_reached.data.toList.drop 0 = dktX2_reached_0 := by decide +kernel
theorem dX2_reached_0 : decode cX2_reached 0 = .ok (.aload_n 0, 1) := dk_42 (dk_at dksX2_reached_0 0 rfl rfl)
theorem dX2_reached_1 : decode cX2_reached 1 = .ok (.iconst 0, 1) := dk_3 (dk_at dksX2_reached_0 1 rfl rfl)
theorem dX2_reached_2 : decode cX2_reached 2 = .ok (.iconst 0, 1) := dk_3 (dk_at dksX2_reached_0 2 rfl rfl)
theorem dX2_reached_3 : decode cX2_reached 3 = .ok (.invokevirtual 91, 3) := dk_182 0 91 (dk_at dksX2_reached_0 3 rfl rfl)
theorem dX2_reached_6 : decode cX2_reached 6 = .ok (.areturn, 1) := dk_176 (dk_at dksX2_reached_0 6 rfl rfl)
abbrev cX2_from : ByteArray := prog_9_method_8_code
def yX2_from : MethodName := ⟨RX2, "from", "(IZ)[Z"⟩
def dkwX2_from_5 : List UInt8 := [128, 54, 4, 167, 255, 170, 167, 255, 150, 45, 176]
abbrev dktX2_from_5 : List UInt8 := dkwX2_from_5 ++ []
def dkwX2_from_4 : List UInt8 := [167, 0, 4, 3, 54, 7, 45, 25, 6, 185, 0, 15, 1, 0, 92, 51, 21, 7, 128, 84, 21, 4, 21, 7]
abbrev dktX2_from_4 : List UInt8 := dkwX2_from_4 ++ dktX2_from_5
def dkwX2_from_3 : List UInt8 := [25, 6, 185, 0, 15, 1, 0, 51, 154, 0, 19, 28, 153, 0, 11, 25, 6, 193, 0, 56, 153, 0, 7, 4]
abbrev dktX2_from_3 : List UInt8 := dkwX2_from_3 ++ dktX2_from_4
def dkwX2_from_2 : List UInt8 := [185, 0, 52, 1, 0, 192, 0, 10, 58, 6, 45, 25, 6, 185, 0, 9, 1, 0, 51, 153, 0, 31, 45]
abbrev dktX2_from_2 : List UInt8 := dkwX2_from_2 ++ dktX2_from_3
def dkwX2_from_1 : List UInt8 := [182, 0, 34, 182, 0, 40, 58, 5, 25, 5, 185, 0, 46, 1, 0, 153, 0, 82, 25, 5]
abbrev dktX2_from_1 : List UInt8 := dkwX2_from_1 ++ dktX2_from_2
def dkwX2_from_0 : List UInt8 := [42, 182, 0, 62, 188, 4, 78, 45, 27, 4, 84, 4, 54, 4, 21, 4, 153, 0, 107, 3, 54, 4, 42]
abbrev dktX2_from_0 : List UInt8 := dkwX2_from_0 ++ dktX2_from_1
theorem dksX2_from_0 : cX2_from.data.toList.drop 0 = dktX2_from_0 := by decide +kernel
theorem dksX2_from_1 : cX2_from.data.toList.drop 23 = dktX2_from_1 := dk_seg dksX2_from_0 23 rfl rfl
theorem dksX2_from_2 : cX2_from.data.toList.drop 43 = dktX2_from_2 := dk_seg dksX2_from_1 20 rfl rfl
theorem dksX2_from_3 : cX2_from.data.toList.drop 66 = dktX2_from_3 := dk_seg dksX2_from_2 23 rfl rfl
theorem dksX2_from_4 : cX2_from.data.toList.drop 90 = dktX2_from_4 := dk_seg dksX2_from_3 24 rfl rfl
theorem dksX2_from_5 : cX2_from.data.toList.drop 114 = dktX2_from_5 := dk_seg dksX2_from_4 24 rfl rfl
theorem dX2_from_0 : decode cX2_from 0 = .ok (.aload_n 0, 1) := dk_42 (dk_at dksX2_from_0 0 rfl rfl)
theorem dX2_from_1 : decode cX2_from 1 = .ok (.invokevirtual 62, 3) := dk_182 0 62 (dk_at dksX2_from_0 1 rfl rfl)
theorem dX2_from_4 : decode cX2_from 4 = .ok (.newarray .boolean, 2) := dk_188_4 (dk_at dksX2_from_0 4 rfl rfl)
theorem dX2_from_6 : decode cX2_from 6 = .ok (.astore_n 3, 1) := dk_78 (dk_at dksX2_from_0 6 rfl rfl)
theorem dX2_from_7 : decode cX2_from 7 = .ok (.aload_n 3, 1) := dk_45 (dk_at dksX2_from_0 7 rfl rfl)
theorem dX2_from_8 : decode cX2_from 8 = .ok (.iload_n 1, 1) := dk_27 (dk_at dksX2_from_0 8 rfl rfl)
theorem dX2_from_9 : decode cX2_from 9 = .ok (.iconst 1, 1) := dk_4 (dk_at dksX2_from_0 9 rfl rfl)
theorem dX2_from_10 : decode cX2_from 10 = .ok (.bastore, 1) := dk_84 (dk_at dksX2_from_0 10 rfl rfl)
theorem dX2_from_11 : decode cX2_from 11 = .ok (.iconst 1, 1) := dk_4 (dk_at dksX2_from_0 11 rfl rfl)
theorem dX2_from_12 : decode cX2_from 12 = .ok (.istore 4, 2) := dk_54 4 (dk_at dksX2_from_0 12 rfl rfl)
theorem dX2_from_14 : decode cX2_from 14 = .ok (.iload 4, 2) := dk_21 4 (dk_at dksX2_from_0 14 rfl rfl)
theorem dX2_from_16 : decode cX2_from 16 = .ok (.ifCond .eq 107, 3) := dk_153 0 107 (dk_at dksX2_from_0 16 rfl rfl)
theorem dX2_from_19 : decode cX2_from 19 = .ok (.iconst 0, 1) := dk_3 (dk_at dksX2_from_0 19 rfl rfl)
theorem dX2_from_20 : decode cX2_from 20 = .ok (.istore 4, 2) := dk_54 4 (dk_at dksX2_from_0 20 rfl rfl)
theorem dX2_from_22 : decode cX2_from 22 = .ok (.aload_n 0, 1) := dk_42 (dk_at dksX2_from_0 22 rfl rfl)
theorem dX2_from_23 : decode cX2_from 23 = .ok (.invokevirtual 34, 3) := dk_182 0 34 (dk_at dksX2_from_1 0 rfl rfl)
theorem dX2_from_26 : decode cX2_from 26 = .ok (.invokevirtual 40, 3) := dk_182 0 40 (dk_at dksX2_from_1 3 rfl rfl)
theorem dX2_from_29 : decode cX2_from 29 = .ok (.astore 5, 2) := dk_58 5 (dk_at dksX2_from_1 6 rfl rfl)
theorem dX2_from_31 : decode cX2_from 31 = .ok (.aload 5, 2) := dk_25 5 (dk_at dksX2_from_1 8 rfl rfl)
theorem dX2_from_33 : decode cX2_from 33 = .ok (.invokeinterface 46 1, 5) := by decide +kernel
theorem dX2_from_38 : decode cX2_from 38 = .ok (.ifCond .eq 82, 3) := dk_153 0 82 (dk_at dksX2_from_1 15 rfl rfl)
theorem dX2_from_41 : decode cX2_from 41 = .ok (.aload 5, 2) := dk_25 5 (dk_at dksX2_from_1 18 rfl rfl)
theorem dX2_from_43 : decode cX2_from 43 = .ok (.invokeinterface 52 1, 5) := by decide +kernel
theorem dX2_from_48 : decode cX2_from 48 = .ok (.checkcast 10, 3) := dk_192 0 10 (dk_at dksX2_from_2 5 rfl rfl)
theorem dX2_from_51 : decode cX2_from 51 = .ok (.astore 6, 2) := dk_58 6 (dk_at dksX2_from_2 8 rfl rfl)
theorem dX2_from_53 : decode cX2_from 53 = .ok (.aload_n 3, 1) := dk_45 (dk_at dksX2_from_2 10 rfl rfl)
theorem dX2_from_54 : decode cX2_from 54 = .ok (.aload 6, 2) := dk_25 6 (dk_at dksX2_from_2 11 rfl rfl)
theorem dX2_from_56 : decode cX2_from 56 = .ok (.invokeinterface 9 1, 5) := by decide +kernel
theorem dX2_from_61 : decode cX2_from 61 = .ok (.baload, 1) := dk_51 (dk_at dksX2_from_2 18 rfl rfl)
theorem dX2_from_62 : decode cX2_from 62 = .ok (.ifCond .eq 31, 3) := dk_153 0 31 (dk_at dksX2_from_2 19 rfl rfl)
theorem dX2_from_65 : decode cX2_from 65 = .ok (.aload_n 3, 1) := dk_45 (dk_at dksX2_from_2 22 rfl rfl)
theorem dX2_from_66 : decode cX2_from 66 = .ok (.aload 6, 2) := dk_25 6 (dk_at dksX2_from_3 0 rfl rfl)
theorem dX2_from_68 : decode cX2_from 68 = .ok (.invokeinterface 15 1, 5) := by decide +kernel
theorem dX2_from_73 : decode cX2_from 73 = .ok (.baload, 1) := dk_51 (dk_at dksX2_from_3 7 rfl rfl)
theorem dX2_from_74 : decode cX2_from 74 = .ok (.ifCond .ne 19, 3) := dk_154 0 19 (dk_at dksX2_from_3 8 rfl rfl)
theorem dX2_from_77 : decode cX2_from 77 = .ok (.iload_n 2, 1) := dk_28 (dk_at dksX2_from_3 11 rfl rfl)
theorem dX2_from_78 : decode cX2_from 78 = .ok (.ifCond .eq 11, 3) := dk_153 0 11 (dk_at dksX2_from_3 12 rfl rfl)
theorem dX2_from_81 : decode cX2_from 81 = .ok (.aload 6, 2) := dk_25 6 (dk_at dksX2_from_3 15 rfl rfl)
theorem dX2_from_83 : decode cX2_from 83 = .ok (.instanceof 56, 3) := dk_193 0 56 (dk_at dksX2_from_3 17 rfl rfl)
theorem dX2_from_86 : decode cX2_from 86 = .ok (.ifCond .eq 7, 3) := dk_153 0 7 (dk_at dksX2_from_3 20 rfl rfl)
theorem dX2_from_89 : decode cX2_from 89 = .ok (.iconst 1, 1) := dk_4 (dk_at dksX2_from_3 23 rfl rfl)
theorem dX2_from_90 : decode cX2_from 90 = .ok (.goto 4, 3) := dk_167 0 4 (dk_at dksX2_from_4 0 rfl rfl)
theorem dX2_from_93 : decode cX2_from 93 = .ok (.iconst 0, 1) := dk_3 (dk_at dksX2_from_4 3 rfl rfl)
theorem dX2_from_94 : decode cX2_from 94 = .ok (.istore 7, 2) := dk_54 7 (dk_at dksX2_from_4 4 rfl rfl)
theorem dX2_from_96 : decode cX2_from 96 = .ok (.aload_n 3, 1) := dk_45 (dk_at dksX2_from_4 6 rfl rfl)
theorem dX2_from_97 : decode cX2_from 97 = .ok (.aload 6, 2) := dk_25 6 (dk_at dksX2_from_4 7 rfl rfl)
theorem dX2_from_99 : decode cX2_from 99 = .ok (.invokeinterface 15 1, 5) := by decide +kernel
theorem dX2_from_104 : decode cX2_from 104 = .ok (.dup2, 1) := dk_92 (dk_at dksX2_from_4 14 rfl rfl)
theorem dX2_from_105 : decode cX2_from 105 = .ok (.baload, 1) := dk_51 (dk_at dksX2_from_4 15 rfl rfl)
theorem dX2_from_106 : decode cX2_from 106 = .ok (.iload 7, 2) := dk_21 7 (dk_at dksX2_from_4 16 rfl rfl)
theorem dX2_from_108 : decode cX2_from 108 = .ok (.ior, 1) := dk_128 (dk_at dksX2_from_4 18 rfl rfl)
theorem dX2_from_109 : decode cX2_from 109 = .ok (.bastore, 1) := dk_84 (dk_at dksX2_from_4 19 rfl rfl)
theorem dX2_from_110 : decode cX2_from 110 = .ok (.iload 4, 2) := dk_21 4 (dk_at dksX2_from_4 20 rfl rfl)
theorem dX2_from_112 : decode cX2_from 112 = .ok (.iload 7, 2) := dk_21 7 (dk_at dksX2_from_4 22 rfl rfl)
theorem dX2_from_114 : decode cX2_from 114 = .ok (.ior, 1) := dk_128 (dk_at dksX2_from_5 0 rfl rfl)
theorem dX2_from_115 : decode cX2_from 115 = .ok (.istore 4, 2) := dk_54 4 (dk_at dksX2_from_5 1 rfl rfl)
theorem dX2_from_117 : decode cX2_from 117 = .ok (.goto (-86), 3) := dk_167 255 170 (dk_at dksX2_from_5 3 rfl rfl)
theorem dX2_from_120 : decode cX2_from 120 = .ok (.goto (-106), 3) := dk_167 255 150 (dk_at dksX2_from_5 6 rfl rfl)
theorem dX2_from_123 : decode cX2_from 123 = .ok (.aload_n 3, 1) := dk_45 (dk_at dksX2_from_5 9 rfl rfl)
theorem dX2_from_124 : decode cX2_from 124 = .ok (.areturn, 1) := dk_176 (dk_at dksX2_from_5 10 rfl rfl)
abbrev cX2_useful : ByteArray := prog_9_method_11_code
def yX2_useful : MethodName := ⟨RX2, "useful", "(I)I"⟩
def dkwX2_useful_0 : List UInt8 := [42, 182, 0, 98, 27, 51, 153, 0, 7, 4, 167, 0, 4, 3, 172]
abbrev dktX2_useful_0 : List UInt8 := dkwX2_useful_0 ++ []
theorem dksX2_useful_0 : cX2_useful.data.toList.drop 0 = dktX2_useful_0 := by decide +kernel
theorem dX2_useful_0 : decode cX2_useful 0 = .ok (.aload_n 0, 1) := dk_42 (dk_at dksX2_useful_0 0 rfl rfl)
theorem dX2_useful_1 : decode cX2_useful 1 = .ok (.invokevirtual 98, 3) := dk_182 0 98 (dk_at dksX2_useful_0 1 rfl rfl)
theorem dX2_useful_4 : decode cX2_useful 4 = .ok (.iload_n 1, 1) := dk_27 (dk_at dksX2_useful_0 4 rfl rfl)
theorem dX2_useful_5 : decode cX2_useful 5 = .ok (.baload, 1) := dk_51 (dk_at dksX2_useful_0 5 rfl rfl)
theorem dX2_useful_6 : decode cX2_useful 6 = .ok (.ifCond .eq 7, 3) := dk_153 0 7 (dk_at dksX2_useful_0 6 rfl rfl)
theorem dX2_useful_9 : decode cX2_useful 9 = .ok (.iconst 1, 1) := dk_4 (dk_at dksX2_useful_0 9 rfl rfl)
theorem dX2_useful_10 : decode cX2_useful 10 = .ok (.goto 4, 3) := dk_167 0 4 (dk_at dksX2_useful_0 10 rfl rfl)
theorem dX2_useful_13 : decode cX2_useful 13 = .ok (.iconst 0, 1) := dk_3 (dk_at dksX2_useful_0 13 rfl rfl)
theorem dX2_useful_14 : decode cX2_useful 14 = .ok (.ireturn, 1) := dk_172 (dk_at dksX2_useful_0 14 rfl rfl)
abbrev cX2_useful_2 : ByteArray := prog_9_method_10_code
def yX2_useful_2 : MethodName := ⟨RX2, "useful", "()[Z"⟩
def dkwX2_useful_2_7 : List UInt8 := [132, 4, 1, 167, 255, 233, 43, 176]
abbrev dktX2_useful_2_7 : List UInt8 := dkwX2_useful_2_7 ++ []
def dkwX2_useful_2_6 : List UInt8 := [54, 4, 21, 4, 42, 182, 0, 62, 162, 0, 20, 43, 21, 4, 92, 51, 45, 21, 4, 51, 126, 84]
abbrev dktX2_useful_2_6 : List UInt8 := dkwX2_useful_2_6 ++ dktX2_useful_2_7
def dkwX2_useful_2_5 : List UInt8 := [92, 51, 21, 5, 128, 84, 28, 21, 5, 128, 61, 167, 255, 186, 167, 255, 169, 42, 182, 0, 94, 78, 3]
abbrev dktX2_useful_2_5 : List UInt8 := dkwX2_useful_2_5 ++ dktX2_useful_2_6
def dkwX2_useful_2_4 : List UInt8 := [185, 0, 9, 1, 0, 51, 154, 0, 7, 4, 167, 0, 4, 3, 54, 5, 43, 25, 4, 185, 0, 9, 1, 0]
abbrev dktX2_useful_2_4 : List UInt8 := dkwX2_useful_2_4 ++ dktX2_useful_2_5
def dkwX2_useful_2_3 : List UInt8 := [192, 0, 10, 58, 4, 43, 25, 4, 185, 0, 15, 1, 0, 51, 153, 0, 19, 43, 25, 4]
abbrev dktX2_useful_2_3 : List UInt8 := dkwX2_useful_2_3 ++ dktX2_useful_2_4
def dkwX2_useful_2_2 : List UInt8 := [42, 182, 0, 34, 182, 0, 40, 78, 45, 185, 0, 46, 1, 0, 153, 0, 67, 45, 185, 0, 52, 1, 0]
abbrev dktX2_useful_2_2 : List UInt8 := dkwX2_useful_2_2 ++ dktX2_useful_2_3
def dkwX2_useful_2_1 : List UInt8 := [2, 159, 0, 7, 4, 167, 0, 4, 3, 84, 132, 2, 1, 167, 255, 228, 4, 61, 28, 153, 0, 89, 3, 61]
abbrev dktX2_useful_2_1 : List UInt8 := dkwX2_useful_2_1 ++ dktX2_useful_2_2
def dkwX2_useful_2_0 : List UInt8 := [42, 182, 0, 62, 188, 4, 76, 3, 61, 28, 42, 182, 0, 62, 162, 0, 26, 43, 28, 42, 28, 182, 0, 87]
abbrev dktX2_useful_2_0 : List UInt8 := dkwX2_useful_2_0 ++ dktX2_useful_2_1
theorem dksX2_useful_2_0 : cX2_useful_2.data.toList.drop 0 = dktX2_useful_2_0 := by decide +kernel
theorem dksX2_useful_2_1 : cX2_useful_2.data.toList.drop 24 = dktX2_useful_2_1 := dk_seg dksX2_useful_2_0 24 rfl rfl
theorem dksX2_useful_2_2 : cX2_useful_2.data.toList.drop 48 = dktX2_useful_2_2 := dk_seg dksX2_useful_2_1 24 rfl rfl
theorem dksX2_useful_2_3 : cX2_useful_2.data.toList.drop 71 = dktX2_useful_2_3 := dk_seg dksX2_useful_2_2 23 rfl rfl
theorem dksX2_useful_2_4 : cX2_useful_2.data.toList.drop 91 = dktX2_useful_2_4 := dk_seg dksX2_useful_2_3 20 rfl rfl
theorem dksX2_useful_2_5 : cX2_useful_2.data.toList.drop 115 = dktX2_useful_2_5 := dk_seg dksX2_useful_2_4 24 rfl rfl
theorem dksX2_useful_2_6 : cX2_useful_2.data.toList.drop 138 = dktX2_useful_2_6 := dk_seg dksX2_useful_2_5 23 rfl rfl
theorem dksX2_useful_2_7 : cX2_useful_2.data.toList.drop 160 = dktX2_useful_2_7 := dk_seg dksX2_useful_2_6 22 rfl rfl
theorem dX2_useful_2_0 : decode cX2_useful_2 0 = .ok (.aload_n 0, 1) := dk_42 (dk_at dksX2_useful_2_0 0 rfl rfl)
theorem dX2_useful_2_1 : decode cX2_useful_2 1 = .ok (.invokevirtual 62, 3) := dk_182 0 62 (dk_at dksX2_useful_2_0 1 rfl rfl)
theorem dX2_useful_2_4 : decode cX2_useful_2 4 = .ok (.newarray .boolean, 2) := dk_188_4 (dk_at dksX2_useful_2_0 4 rfl rfl)
theorem dX2_useful_2_6 : decode cX2_useful_2 6 = .ok (.astore_n 1, 1) := dk_76 (dk_at dksX2_useful_2_0 6 rfl rfl)
theorem dX2_useful_2_7 : decode cX2_useful_2 7 = .ok (.iconst 0, 1) := dk_3 (dk_at dksX2_useful_2_0 7 rfl rfl)
theorem dX2_useful_2_8 : decode cX2_useful_2 8 = .ok (.istore_n 2, 1) := dk_61 (dk_at dksX2_useful_2_0 8 rfl rfl)
theorem dX2_useful_2_9 : decode cX2_useful_2 9 = .ok (.iload_n 2, 1) := dk_28 (dk_at dksX2_useful_2_0 9 rfl rfl)
theorem dX2_useful_2_10 : decode cX2_useful_2 10 = .ok (.aload_n 0, 1) := dk_42 (dk_at dksX2_useful_2_0 10 rfl rfl)
theorem dX2_useful_2_11 : decode cX2_useful_2 11 = .ok (.invokevirtual 62, 3) := dk_182 0 62 (dk_at dksX2_useful_2_0 11 rfl rfl)
theorem dX2_useful_2_14 : decode cX2_useful_2 14 = .ok (.if_icmp .ge 26, 3) := dk_162 0 26 (dk_at dksX2_useful_2_0 14 rfl rfl)
theorem dX2_useful_2_17 : decode cX2_useful_2 17 = .ok (.aload_n 1, 1) := dk_43 (dk_at dksX2_useful_2_0 17 rfl rfl)
theorem dX2_useful_2_18 : decode cX2_useful_2 18 = .ok (.iload_n 2, 1) := dk_28 (dk_at dksX2_useful_2_0 18 rfl rfl)
theorem dX2_useful_2_19 : decode cX2_useful_2 19 = .ok (.aload_n 0, 1) := dk_42 (dk_at dksX2_useful_2_0 19 rfl rfl)
theorem dX2_useful_2_20 : decode cX2_useful_2 20 = .ok (.iload_n 2, 1) := dk_28 (dk_at dksX2_useful_2_0 20 rfl rfl)
theorem dX2_useful_2_21 : decode cX2_useful_2 21 = .ok (.invokevirtual 87, 3) := dk_182 0 87 (dk_at dksX2_useful_2_0 21 rfl rfl)
theorem dX2_useful_2_24 : decode cX2_useful_2 24 = .ok (.iconst (-1), 1) := dk_2 (dk_at dksX2_useful_2_1 0 rfl rfl)
theorem dX2_useful_2_25 : decode cX2_useful_2 25 = .ok (.if_icmp .eq 7, 3) := dk_159 0 7 (dk_at dksX2_useful_2_1 1 rfl rfl)
theorem dX2_useful_2_28 : decode cX2_useful_2 28 = .ok (.iconst 1, 1) := dk_4 (dk_at dksX2_useful_2_1 4 rfl rfl)
theorem dX2_useful_2_29 : decode cX2_useful_2 29 = .ok (.goto 4, 3) := dk_167 0 4 (dk_at dksX2_useful_2_1 5 rfl rfl)
theorem dX2_useful_2_32 : decode cX2_useful_2 32 = .ok (.iconst 0, 1) := dk_3 (dk_at dksX2_useful_2_1 8 rfl rfl)
theorem dX2_useful_2_33 : decode cX2_useful_2 33 = .ok (.bastore, 1) := dk_84 (dk_at dksX2_useful_2_1 9 rfl rfl)
theorem dX2_useful_2_34 : decode cX2_useful_2 34 = .ok (.iinc 2 1, 3) := dk_132 2 1 (dk_at dksX2_useful_2_1 10 rfl rfl)
theorem dX2_useful_2_37 : decode cX2_useful_2 37 = .ok (.goto (-28), 3) := dk_167 255 228 (dk_at dksX2_useful_2_1 13 rfl rfl)
theorem dX2_useful_2_40 : decode cX2_useful_2 40 = .ok (.iconst 1, 1) := dk_4 (dk_at dksX2_useful_2_1 16 rfl rfl)
theorem dX2_useful_2_41 : decode cX2_useful_2 41 = .ok (.istore_n 2, 1) := dk_61 (dk_at dksX2_useful_2_1 17 rfl rfl)
theorem dX2_useful_2_42 : decode cX2_useful_2 42 = .ok (.iload_n 2, 1) := dk_28 (dk_at dksX2_useful_2_1 18 rfl rfl)
theorem dX2_useful_2_43 : decode cX2_useful_2 43 = .ok (.ifCond .eq 89, 3) := dk_153 0 89 (dk_at dksX2_useful_2_1 19 rfl rfl)
theorem dX2_useful_2_46 : decode cX2_useful_2 46 = .ok (.iconst 0, 1) := dk_3 (dk_at dksX2_useful_2_1 22 rfl rfl)
theorem dX2_useful_2_47 : decode cX2_useful_2 47 = .ok (.istore_n 2, 1) := dk_61 (dk_at dksX2_useful_2_1 23 rfl rfl)
theorem dX2_useful_2_48 : decode cX2_useful_2 48 = .ok (.aload_n 0, 1) := dk_42 (dk_at dksX2_useful_2_2 0 rfl rfl)
theorem dX2_useful_2_49 : decode cX2_useful_2 49 = .ok (.invokevirtual 34, 3) := dk_182 0 34 (dk_at dksX2_useful_2_2 1 rfl rfl)
theorem dX2_useful_2_52 : decode cX2_useful_2 52 = .ok (.invokevirtual 40, 3) := dk_182 0 40 (dk_at dksX2_useful_2_2 4 rfl rfl)
theorem dX2_useful_2_55 : decode cX2_useful_2 55 = .ok (.astore_n 3, 1) := dk_78 (dk_at dksX2_useful_2_2 7 rfl rfl)
theorem dX2_useful_2_56 : decode cX2_useful_2 56 = .ok (.aload_n 3, 1) := dk_45 (dk_at dksX2_useful_2_2 8 rfl rfl)
theorem dX2_useful_2_57 : decode cX2_useful_2 57 = .ok (.invokeinterface 46 1, 5) := by decide +kernel
theorem dX2_useful_2_62 : decode cX2_useful_2 62 = .ok (.ifCond .eq 67, 3) := dk_153 0 67 (dk_at dksX2_useful_2_2 14 rfl rfl)
theorem dX2_useful_2_65 : decode cX2_useful_2 65 = .ok (.aload_n 3, 1) := dk_45 (dk_at dksX2_useful_2_2 17 rfl rfl)
theorem dX2_useful_2_66 : decode cX2_useful_2 66 = .ok (.invokeinterface 52 1, 5) := by decide +kernel
theorem dX2_useful_2_71 : decode cX2_useful_2 71 = .ok (.checkcast 10, 3) := dk_192 0 10 (dk_at dksX2_useful_2_3 0 rfl rfl)
theorem dX2_useful_2_74 : decode cX2_useful_2 74 = .ok (.astore 4, 2) := dk_58 4 (dk_at dksX2_useful_2_3 3 rfl rfl)
theorem dX2_useful_2_76 : decode cX2_useful_2 76 = .ok (.aload_n 1, 1) := dk_43 (dk_at dksX2_useful_2_3 5 rfl rfl)
theorem dX2_useful_2_77 : decode cX2_useful_2 77 = .ok (.aload 4, 2) := dk_25 4 (dk_at dksX2_useful_2_3 6 rfl rfl)
theorem dX2_useful_2_79 : decode cX2_useful_2 79 = .ok (.invokeinterface 15 1, 5) := by decide +kernel
theorem dX2_useful_2_84 : decode cX2_useful_2 84 = .ok (.baload, 1) := dk_51 (dk_at dksX2_useful_2_3 13 rfl rfl)
theorem dX2_useful_2_85 : decode cX2_useful_2 85 = .ok (.ifCond .eq 19, 3) := dk_153 0 19 (dk_at dksX2_useful_2_3 14 rfl rfl)
theorem dX2_useful_2_88 : decode cX2_useful_2 88 = .ok (.aload_n 1, 1) := dk_43 (dk_at dksX2_useful_2_3 17 rfl rfl)
theorem dX2_useful_2_89 : decode cX2_useful_2 89 = .ok (.aload 4, 2) := dk_25 4 (dk_at dksX2_useful_2_3 18 rfl rfl)
theorem dX2_useful_2_91 : decode cX2_useful_2 91 = .ok (.invokeinterface 9 1, 5) := by decide +kernel
theorem dX2_useful_2_96 : decode cX2_useful_2 96 = .ok (.baload, 1) := dk_51 (dk_at dksX2_useful_2_4 5 rfl rfl)
theorem dX2_useful_2_97 : decode cX2_useful_2 97 = .ok (.ifCond .ne 7, 3) := dk_154 0 7 (dk_at dksX2_useful_2_4 6 rfl rfl)
theorem dX2_useful_2_100 : decode cX2_useful_2 100 = .ok (.iconst 1, 1) := dk_4 (dk_at dksX2_useful_2_4 9 rfl rfl)
theorem dX2_useful_2_101 : decode cX2_useful_2 101 = .ok (.goto 4, 3) := dk_167 0 4 (dk_at dksX2_useful_2_4 10 rfl rfl)
theorem dX2_useful_2_104 : decode cX2_useful_2 104 = .ok (.iconst 0, 1) := dk_3 (dk_at dksX2_useful_2_4 13 rfl rfl)
theorem dX2_useful_2_105 : decode cX2_useful_2 105 = .ok (.istore 5, 2) := dk_54 5 (dk_at dksX2_useful_2_4 14 rfl rfl)
theorem dX2_useful_2_107 : decode cX2_useful_2 107 = .ok (.aload_n 1, 1) := dk_43 (dk_at dksX2_useful_2_4 16 rfl rfl)
theorem dX2_useful_2_108 : decode cX2_useful_2 108 = .ok (.aload 4, 2) := dk_25 4 (dk_at dksX2_useful_2_4 17 rfl rfl)
theorem dX2_useful_2_110 : decode cX2_useful_2 110 = .ok (.invokeinterface 9 1, 5) := by decide +kernel
theorem dX2_useful_2_115 : decode cX2_useful_2 115 = .ok (.dup2, 1) := dk_92 (dk_at dksX2_useful_2_5 0 rfl rfl)
theorem dX2_useful_2_116 : decode cX2_useful_2 116 = .ok (.baload, 1) := dk_51 (dk_at dksX2_useful_2_5 1 rfl rfl)
theorem dX2_useful_2_117 : decode cX2_useful_2 117 = .ok (.iload 5, 2) := dk_21 5 (dk_at dksX2_useful_2_5 2 rfl rfl)
theorem dX2_useful_2_119 : decode cX2_useful_2 119 = .ok (.ior, 1) := dk_128 (dk_at dksX2_useful_2_5 4 rfl rfl)
theorem dX2_useful_2_120 : decode cX2_useful_2 120 = .ok (.bastore, 1) := dk_84 (dk_at dksX2_useful_2_5 5 rfl rfl)
theorem dX2_useful_2_121 : decode cX2_useful_2 121 = .ok (.iload_n 2, 1) := dk_28 (dk_at dksX2_useful_2_5 6 rfl rfl)
theorem dX2_useful_2_122 : decode cX2_useful_2 122 = .ok (.iload 5, 2) := dk_21 5 (dk_at dksX2_useful_2_5 7 rfl rfl)
theorem dX2_useful_2_124 : decode cX2_useful_2 124 = .ok (.ior, 1) := dk_128 (dk_at dksX2_useful_2_5 9 rfl rfl)
theorem dX2_useful_2_125 : decode cX2_useful_2 125 = .ok (.istore_n 2, 1) := dk_61 (dk_at dksX2_useful_2_5 10 rfl rfl)
theorem dX2_useful_2_126 : decode cX2_useful_2 126 = .ok (.goto (-70), 3) := dk_167 255 186 (dk_at dksX2_useful_2_5 11 rfl rfl)
theorem dX2_useful_2_129 : decode cX2_useful_2 129 = .ok (.goto (-87), 3) := dk_167 255 169 (dk_at dksX2_useful_2_5 14 rfl rfl)
theorem dX2_useful_2_132 : decode cX2_useful_2 132 = .ok (.aload_n 0, 1) := dk_42 (dk_at dksX2_useful_2_5 17 rfl rfl)
theorem dX2_useful_2_133 : decode cX2_useful_2 133 = .ok (.invokevirtual 94, 3) := dk_182 0 94 (dk_at dksX2_useful_2_5 18 rfl rfl)
theorem dX2_useful_2_136 : decode cX2_useful_2 136 = .ok (.astore_n 3, 1) := dk_78 (dk_at dksX2_useful_2_5 21 rfl rfl)
theorem dX2_useful_2_137 : decode cX2_useful_2 137 = .ok (.iconst 0, 1) := dk_3 (dk_at dksX2_useful_2_5 22 rfl rfl)
theorem dX2_useful_2_138 : decode cX2_useful_2 138 = .ok (.istore 4, 2) := dk_54 4 (dk_at dksX2_useful_2_6 0 rfl rfl)
theorem dX2_useful_2_140 : decode cX2_useful_2 140 = .ok (.iload 4, 2) := dk_21 4 (dk_at dksX2_useful_2_6 2 rfl rfl)
theorem dX2_useful_2_142 : decode cX2_useful_2 142 = .ok (.aload_n 0, 1) := dk_42 (dk_at dksX2_useful_2_6 4 rfl rfl)
theorem dX2_useful_2_143 : decode cX2_useful_2 143 = .ok (.invokevirtual 62, 3) := dk_182 0 62 (dk_at dksX2_useful_2_6 5 rfl rfl)
theorem dX2_useful_2_146 : decode cX2_useful_2 146 = .ok (.if_icmp .ge 20, 3) := dk_162 0 20 (dk_at dksX2_useful_2_6 8 rfl rfl)
theorem dX2_useful_2_149 : decode cX2_useful_2 149 = .ok (.aload_n 1, 1) := dk_43 (dk_at dksX2_useful_2_6 11 rfl rfl)
theorem dX2_useful_2_150 : decode cX2_useful_2 150 = .ok (.iload 4, 2) := dk_21 4 (dk_at dksX2_useful_2_6 12 rfl rfl)
theorem dX2_useful_2_152 : decode cX2_useful_2 152 = .ok (.dup2, 1) := dk_92 (dk_at dksX2_useful_2_6 14 rfl rfl)
theorem dX2_useful_2_153 : decode cX2_useful_2 153 = .ok (.baload, 1) := dk_51 (dk_at dksX2_useful_2_6 15 rfl rfl)
theorem dX2_useful_2_154 : decode cX2_useful_2 154 = .ok (.aload_n 3, 1) := dk_45 (dk_at dksX2_useful_2_6 16 rfl rfl)
theorem dX2_useful_2_155 : decode cX2_useful_2 155 = .ok (.iload 4, 2) := dk_21 4 (dk_at dksX2_useful_2_6 17 rfl rfl)
theorem dX2_useful_2_157 : decode cX2_useful_2 157 = .ok (.baload, 1) := dk_51 (dk_at dksX2_useful_2_6 19 rfl rfl)
theorem dX2_useful_2_158 : decode cX2_useful_2 158 = .ok (.iand, 1) := dk_126 (dk_at dksX2_useful_2_6 20 rfl rfl)
theorem dX2_useful_2_159 : decode cX2_useful_2 159 = .ok (.bastore, 1) := dk_84 (dk_at dksX2_useful_2_6 21 rfl rfl)
theorem dX2_useful_2_160 : decode cX2_useful_2 160 = .ok (.iinc 4 1, 3) := dk_132 4 1 (dk_at dksX2_useful_2_7 0 rfl rfl)
theorem dX2_useful_2_163 : decode cX2_useful_2 163 = .ok (.goto (-23), 3) := dk_167 255 233 (dk_at dksX2_useful_2_7 3 rfl rfl)
theorem dX2_useful_2_166 : decode cX2_useful_2 166 = .ok (.aload_n 1, 1) := dk_43 (dk_at dksX2_useful_2_7 6 rfl rfl)
theorem dX2_useful_2_167 : decode cX2_useful_2 167 = .ok (.areturn, 1) := dk_176 (dk_at dksX2_useful_2_7 7 rfl rfl)
abbrev cX2_reads : ByteArray := prog_9_method_7_code
def yX2_reads : MethodName := ⟨RX2, "reads", "(Ljava/lang/CharSequence;)LChantRules$Way;"⟩
def dkwX2_reads_11 : List UInt8 := [182, 0, 87, 7, 182, 0, 30, 167, 0, 4, 45, 78, 132, 4, 1, 167, 255, 166, 45, 176]
abbrev dktX2_reads_11 : List UInt8 := dkwX2_reads_11 ++ []
def dkwX2_reads_10 : List UInt8 := [45, 182, 0, 24, 153, 0, 7, 4, 167, 0, 4, 3, 54, 6, 21, 6, 153, 0, 18, 25, 5, 42, 21, 4]
abbrev dktX2_reads_10 : List UInt8 := dkwX2_reads_10 ++ dktX2_reads_11
def dkwX2_reads_9 : List UInt8 := [25, 5, 198, 0, 33, 42, 21, 4, 182, 0, 87, 2, 159, 0, 23, 25, 5, 42, 21, 4, 182, 0, 87, 7]
abbrev dktX2_reads_9 : List UInt8 := dkwX2_reads_9 ++ dktX2_reads_10
def dkwX2_reads_8 : List UInt8 := [182, 0, 62, 162, 0, 87, 44, 42, 182, 0, 62, 43, 185, 0, 65, 1, 0, 104, 21, 4, 96, 50, 58, 5]
abbrev dktX2_reads_8 : List UInt8 := dkwX2_reads_8 ++ dktX2_reads_9
def dkwX2_reads_7 : List UInt8 := [42, 182, 0, 62, 96, 182, 0, 73, 132, 3, 1, 167, 255, 118, 1, 78, 3, 54, 4, 21, 4, 42]
abbrev dktX2_reads_7 : List UInt8 := dkwX2_reads_7 ++ dktX2_reads_8
def dkwX2_reads_6 : List UInt8 := [182, 0, 62, 96, 182, 0, 58, 153, 0, 7, 4, 167, 0, 4, 3, 54, 7, 167, 255, 163, 42, 44, 21, 4]
abbrev dktX2_reads_6 : List UInt8 := dkwX2_reads_6 ++ dktX2_reads_7
def dkwX2_reads_5 : List UInt8 := [160, 0, 7, 4, 167, 0, 4, 3, 54, 7, 21, 7, 153, 0, 26, 42, 25, 6, 44, 21, 4, 21, 4, 42]
abbrev dktX2_reads_5 : List UInt8 := dkwX2_reads_5 ++ dktX2_reads_6
def dkwX2_reads_4 : List UInt8 := [25, 6, 192, 0, 77, 58, 8, 25, 8, 180, 0, 79, 43, 29, 185, 0, 83, 2, 0, 16, 97, 100]
abbrev dktX2_reads_4 : List UInt8 := dkwX2_reads_4 ++ dktX2_reads_5
def dkwX2_reads_3 : List UInt8 := [153, 0, 89, 25, 5, 185, 0, 52, 1, 0, 192, 0, 10, 58, 6, 25, 6, 193, 0, 77, 153, 0, 32]
abbrev dktX2_reads_3 : List UInt8 := dkwX2_reads_3 ++ dktX2_reads_4
def dkwX2_reads_2 : List UInt8 := [182, 0, 62, 29, 104, 54, 4, 42, 182, 0, 34, 182, 0, 40, 58, 5, 25, 5, 185, 0, 46, 1, 0]
abbrev dktX2_reads_2 : List UInt8 := dkwX2_reads_2 ++ dktX2_reads_3
def dkwX2_reads_1 : List UInt8 := [1, 183, 0, 70, 83, 42, 44, 3, 182, 0, 73, 3, 62, 29, 43, 185, 0, 65, 1, 0, 162, 0, 134, 42]
abbrev dktX2_reads_1 : List UInt8 := dkwX2_reads_1 ++ dktX2_reads_2
def dkwX2_reads_0 : List UInt8 := [42, 182, 0, 62, 43, 185, 0, 65, 1, 0, 4, 96, 104, 189, 0, 25, 77, 44, 3, 187, 0, 25, 89, 3]
abbrev dktX2_reads_0 : List UInt8 := dkwX2_reads_0 ++ dktX2_reads_1
theorem dksX2_reads_0 : cX2_reads.data.toList.drop 0 = dktX2_reads_0 := by decide +kernel
theorem dksX2_reads_1 : cX2_reads.data.toList.drop 24 = dktX2_reads_1 := dk_seg dksX2_reads_0 24 rfl rfl
theorem dksX2_reads_2 : cX2_reads.data.toList.drop 48 = dktX2_reads_2 := dk_seg dksX2_reads_1 24 rfl rfl
theorem dksX2_reads_3 : cX2_reads.data.toList.drop 71 = dktX2_reads_3 := dk_seg dksX2_reads_2 23 rfl rfl
theorem dksX2_reads_4 : cX2_reads.data.toList.drop 94 = dktX2_reads_4 := dk_seg dksX2_reads_3 23 rfl rfl
theorem dksX2_reads_5 : cX2_reads.data.toList.drop 116 = dktX2_reads_5 := dk_seg dksX2_reads_4 22 rfl rfl
theorem dksX2_reads_6 : cX2_reads.data.toList.drop 140 = dktX2_reads_6 := dk_seg dksX2_reads_5 24 rfl rfl
theorem dksX2_reads_7 : cX2_reads.data.toList.drop 164 = dktX2_reads_7 := dk_seg dksX2_reads_6 24 rfl rfl
theorem dksX2_reads_8 : cX2_reads.data.toList.drop 186 = dktX2_reads_8 := dk_seg dksX2_reads_7 22 rfl rfl
theorem dksX2_reads_9 : cX2_reads.data.toList.drop 210 = dktX2_reads_9 := dk_seg dksX2_reads_8 24 rfl rfl
theorem dksX2_reads_10 : cX2_reads.data.toList.drop 234 = dktX2_reads_10 := dk_seg dksX2_reads_9 24 rfl rfl
theorem dksX2_reads_11 : cX2_reads.data.toList.drop 258 = dktX2_reads_11 := dk_seg dksX2_reads_10 24 rfl rfl
theorem dX2_reads_0 : decode cX2_reads 0 = .ok (.aload_n 0, 1) := dk_42 (dk_at dksX2_reads_0 0 rfl rfl)
theorem dX2_reads_1 : decode cX2_reads 1 = .ok (.invokevirtual 62, 3) := dk_182 0 62 (dk_at dksX2_reads_0 1 rfl rfl)
theorem dX2_reads_4 : decode cX2_reads 4 = .ok (.aload_n 1, 1) := dk_43 (dk_at dksX2_reads_0 4 rfl rfl)
theorem dX2_reads_5 : decode cX2_reads 5 = .ok (.invokeinterface 65 1, 5) := by decide +kernel
theorem dX2_reads_10 : decode cX2_reads 10 = .ok (.iconst 1, 1) := dk_4 (dk_at dksX2_reads_0 10 rfl rfl)
theorem dX2_reads_11 : decode cX2_reads 11 = .ok (.iadd, 1) := dk_96 (dk_at dksX2_reads_0 11 rfl rfl)
theorem dX2_reads_12 : decode cX2_reads 12 = .ok (.imul, 1) := dk_104 (dk_at dksX2_reads_0 12 rfl rfl)
theorem dX2_reads_13 : decode cX2_reads 13 = .ok (.anewarray 25, 3) := dk_189 0 25 (dk_at dksX2_reads_0 13 rfl rfl)
theorem dX2_reads_16 : decode cX2_reads 16 = .ok (.astore_n 2, 1) := dk_77 (dk_at dksX2_reads_0 16 rfl rfl)
theorem dX2_reads_17 : decode cX2_reads 17 = .ok (.aload_n 2, 1) := dk_44 (dk_at dksX2_reads_0 17 rfl rfl)
theorem dX2_reads_18 : decode cX2_reads 18 = .ok (.iconst 0, 1) := dk_3 (dk_at dksX2_reads_0 18 rfl rfl)
theorem dX2_reads_19 : decode cX2_reads 19 = .ok (.new 25, 3) := dk_187 0 25 (dk_at dksX2_reads_0 19 rfl rfl)
theorem dX2_reads_22 : decode cX2_reads 22 = .ok (.dup, 1) := dk_89 (dk_at dksX2_reads_0 22 rfl rfl)
theorem dX2_reads_23 : decode cX2_reads 23 = .ok (.iconst 0, 1) := dk_3 (dk_at dksX2_reads_0 23 rfl rfl)
theorem dX2_reads_24 : decode cX2_reads 24 = .ok (.aconst_null, 1) := dk_1 (dk_at dksX2_reads_1 0 rfl rfl)
theorem dX2_reads_25 : decode cX2_reads 25 = .ok (.invokespecial 70, 3) := dk_183 0 70 (dk_at dksX2_reads_1 1 rfl rfl)
theorem dX2_reads_28 : decode cX2_reads 28 = .ok (.aastore, 1) := dk_83 (dk_at dksX2_reads_1 4 rfl rfl)
theorem dX2_reads_29 : decode cX2_reads 29 = .ok (.aload_n 0, 1) := dk_42 (dk_at dksX2_reads_1 5 rfl rfl)
theorem dX2_reads_30 : decode cX2_reads 30 = .ok (.aload_n 2, 1) := dk_44 (dk_at dksX2_reads_1 6 rfl rfl)
theorem dX2_reads_31 : decode cX2_reads 31 = .ok (.iconst 0, 1) := dk_3 (dk_at dksX2_reads_1 7 rfl rfl)
theorem dX2_reads_32 : decode cX2_reads 32 = .ok (.invokevirtual 73, 3) := dk_182 0 73 (dk_at dksX2_reads_1 8 rfl rfl)
theorem dX2_reads_35 : decode cX2_reads 35 = .ok (.iconst 0, 1) := dk_3 (dk_at dksX2_reads_1 11 rfl rfl)
theorem dX2_reads_36 : decode cX2_reads 36 = .ok (.istore_n 3, 1) := dk_62 (dk_at dksX2_reads_1 12 rfl rfl)
theorem dX2_reads_37 : decode cX2_reads 37 = .ok (.iload_n 3, 1) := dk_29 (dk_at dksX2_reads_1 13 rfl rfl)
theorem dX2_reads_38 : decode cX2_reads 38 = .ok (.aload_n 1, 1) := dk_43 (dk_at dksX2_reads_1 14 rfl rfl)
theorem dX2_reads_39 : decode cX2_reads 39 = .ok (.invokeinterface 65 1, 5) := by decide +kernel
theorem dX2_reads_44 : decode cX2_reads 44 = .ok (.if_icmp .ge 134, 3) := dk_162 0 134 (dk_at dksX2_reads_1 20 rfl rfl)
theorem dX2_reads_47 : decode cX2_reads 47 = .ok (.aload_n 0, 1) := dk_42 (dk_at dksX2_reads_1 23 rfl rfl)
theorem dX2_reads_48 : decode cX2_reads 48 = .ok (.invokevirtual 62, 3) := dk_182 0 62 (dk_at dksX2_reads_2 0 rfl rfl)
theorem dX2_reads_51 : decode cX2_reads 51 = .ok (.iload_n 3, 1) := dk_29 (dk_at dksX2_reads_2 3 rfl rfl)
theorem dX2_reads_52 : decode cX2_reads 52 = .ok (.imul, 1) := dk_104 (dk_at dksX2_reads_2 4 rfl rfl)
theorem dX2_reads_53 : decode cX2_reads 53 = .ok (.istore 4, 2) := dk_54 4 (dk_at dksX2_reads_2 5 rfl rfl)
theorem dX2_reads_55 : decode cX2_reads 55 = .ok (.aload_n 0, 1) := dk_42 (dk_at dksX2_reads_2 7 rfl rfl)
theorem dX2_reads_56 : decode cX2_reads 56 = .ok (.invokevirtual 34, 3) := dk_182 0 34 (dk_at dksX2_reads_2 8 rfl rfl)
theorem dX2_reads_59 : decode cX2_reads 59 = .ok (.invokevirtual 40, 3) := dk_182 0 40 (dk_at dksX2_reads_2 11 rfl rfl)
theorem dX2_reads_62 : decode cX2_reads 62 = .ok (.astore 5, 2) := dk_58 5 (dk_at dksX2_reads_2 14 rfl rfl)
theorem dX2_reads_64 : decode cX2_reads 64 = .ok (.aload 5, 2) := dk_25 5 (dk_at dksX2_reads_2 16 rfl rfl)
theorem dX2_reads_66 : decode cX2_reads 66 = .ok (.invokeinterface 46 1, 5) := by decide +kernel
theorem dX2_reads_71 : decode cX2_reads 71 = .ok (.ifCond .eq 89, 3) := dk_153 0 89 (dk_at dksX2_reads_3 0 rfl rfl)
theorem dX2_reads_74 : decode cX2_reads 74 = .ok (.aload 5, 2) := dk_25 5 (dk_at dksX2_reads_3 3 rfl rfl)
theorem dX2_reads_76 : decode cX2_reads 76 = .ok (.invokeinterface 52 1, 5) := by decide +kernel
theorem dX2_reads_81 : decode cX2_reads 81 = .ok (.checkcast 10, 3) := dk_192 0 10 (dk_at dksX2_reads_3 10 rfl rfl)
theorem dX2_reads_84 : decode cX2_reads 84 = .ok (.astore 6, 2) := dk_58 6 (dk_at dksX2_reads_3 13 rfl rfl)
theorem dX2_reads_86 : decode cX2_reads 86 = .ok (.aload 6, 2) := dk_25 6 (dk_at dksX2_reads_3 15 rfl rfl)
theorem dX2_reads_88 : decode cX2_reads 88 = .ok (.instanceof 77, 3) := dk_193 0 77 (dk_at dksX2_reads_3 17 rfl rfl)
theorem dX2_reads_91 : decode cX2_reads 91 = .ok (.ifCond .eq 32, 3) := dk_153 0 32 (dk_at dksX2_reads_3 20 rfl rfl)
theorem dX2_reads_94 : decode cX2_reads 94 = .ok (.aload 6, 2) := dk_25 6 (dk_at dksX2_reads_4 0 rfl rfl)
theorem dX2_reads_96 : decode cX2_reads 96 = .ok (.checkcast 77, 3) := dk_192 0 77 (dk_at dksX2_reads_4 2 rfl rfl)
theorem dX2_reads_99 : decode cX2_reads 99 = .ok (.astore 8, 2) := dk_58 8 (dk_at dksX2_reads_4 5 rfl rfl)
theorem dX2_reads_101 : decode cX2_reads 101 = .ok (.aload 8, 2) := dk_25 8 (dk_at dksX2_reads_4 7 rfl rfl)
theorem dX2_reads_103 : decode cX2_reads 103 = .ok (.getfield 79, 3) := dk_180 0 79 (dk_at dksX2_reads_4 9 rfl rfl)
theorem dX2_reads_106 : decode cX2_reads 106 = .ok (.aload_n 1, 1) := dk_43 (dk_at dksX2_reads_4 12 rfl rfl)
theorem dX2_reads_107 : decode cX2_reads 107 = .ok (.iload_n 3, 1) := dk_29 (dk_at dksX2_reads_4 13 rfl rfl)
theorem dX2_reads_108 : decode cX2_reads 108 = .ok (.invokeinterface 83 2, 5) := by decide +kernel
theorem dX2_reads_113 : decode cX2_reads 113 = .ok (.bipush 97, 2) := dk_16 97 (dk_at dksX2_reads_4 19 rfl rfl)
theorem dX2_reads_115 : decode cX2_reads 115 = .ok (.isub, 1) := dk_100 (dk_at dksX2_reads_4 21 rfl rfl)
theorem dX2_reads_116 : decode cX2_reads 116 = .ok (.if_icmp .ne 7, 3) := dk_160 0 7 (dk_at dksX2_reads_5 0 rfl rfl)
theorem dX2_reads_119 : decode cX2_reads 119 = .ok (.iconst 1, 1) := dk_4 (dk_at dksX2_reads_5 3 rfl rfl)
theorem dX2_reads_120 : decode cX2_reads 120 = .ok (.goto 4, 3) := dk_167 0 4 (dk_at dksX2_reads_5 4 rfl rfl)
theorem dX2_reads_123 : decode cX2_reads 123 = .ok (.iconst 0, 1) := dk_3 (dk_at dksX2_reads_5 7 rfl rfl)
theorem dX2_reads_124 : decode cX2_reads 124 = .ok (.istore 7, 2) := dk_54 7 (dk_at dksX2_reads_5 8 rfl rfl)
theorem dX2_reads_126 : decode cX2_reads 126 = .ok (.iload 7, 2) := dk_21 7 (dk_at dksX2_reads_5 10 rfl rfl)
theorem dX2_reads_128 : decode cX2_reads 128 = .ok (.ifCond .eq 26, 3) := dk_153 0 26 (dk_at dksX2_reads_5 12 rfl rfl)
theorem dX2_reads_131 : decode cX2_reads 131 = .ok (.aload_n 0, 1) := dk_42 (dk_at dksX2_reads_5 15 rfl rfl)
theorem dX2_reads_132 : decode cX2_reads 132 = .ok (.aload 6, 2) := dk_25 6 (dk_at dksX2_reads_5 16 rfl rfl)
theorem dX2_reads_134 : decode cX2_reads 134 = .ok (.aload_n 2, 1) := dk_44 (dk_at dksX2_reads_5 18 rfl rfl)
theorem dX2_reads_135 : decode cX2_reads 135 = .ok (.iload 4, 2) := dk_21 4 (dk_at dksX2_reads_5 19 rfl rfl)
theorem dX2_reads_137 : decode cX2_reads 137 = .ok (.iload 4, 2) := dk_21 4 (dk_at dksX2_reads_5 21 rfl rfl)
theorem dX2_reads_139 : decode cX2_reads 139 = .ok (.aload_n 0, 1) := dk_42 (dk_at dksX2_reads_5 23 rfl rfl)
theorem dX2_reads_140 : decode cX2_reads 140 = .ok (.invokevirtual 62, 3) := dk_182 0 62 (dk_at dksX2_reads_6 0 rfl rfl)
theorem dX2_reads_143 : decode cX2_reads 143 = .ok (.iadd, 1) := dk_96 (dk_at dksX2_reads_6 3 rfl rfl)
theorem dX2_reads_144 : decode cX2_reads 144 = .ok (.invokevirtual 58, 3) := dk_182 0 58 (dk_at dksX2_reads_6 4 rfl rfl)
theorem dX2_reads_147 : decode cX2_reads 147 = .ok (.ifCond .eq 7, 3) := dk_153 0 7 (dk_at dksX2_reads_6 7 rfl rfl)
theorem dX2_reads_150 : decode cX2_reads 150 = .ok (.iconst 1, 1) := dk_4 (dk_at dksX2_reads_6 10 rfl rfl)
theorem dX2_reads_151 : decode cX2_reads 151 = .ok (.goto 4, 3) := dk_167 0 4 (dk_at dksX2_reads_6 11 rfl rfl)
theorem dX2_reads_154 : decode cX2_reads 154 = .ok (.iconst 0, 1) := dk_3 (dk_at dksX2_reads_6 14 rfl rfl)
theorem dX2_reads_155 : decode cX2_reads 155 = .ok (.istore 7, 2) := dk_54 7 (dk_at dksX2_reads_6 15 rfl rfl)
theorem dX2_reads_157 : decode cX2_reads 157 = .ok (.goto (-93), 3) := dk_167 255 163 (dk_at dksX2_reads_6 17 rfl rfl)
theorem dX2_reads_160 : decode cX2_reads 160 = .ok (.aload_n 0, 1) := dk_42 (dk_at dksX2_reads_6 20 rfl rfl)
theorem dX2_reads_161 : decode cX2_reads 161 = .ok (.aload_n 2, 1) := dk_44 (dk_at dksX2_reads_6 21 rfl rfl)
theorem dX2_reads_162 : decode cX2_reads 162 = .ok (.iload 4, 2) := dk_21 4 (dk_at dksX2_reads_6 22 rfl rfl)
theorem dX2_reads_164 : decode cX2_reads 164 = .ok (.aload_n 0, 1) := dk_42 (dk_at dksX2_reads_7 0 rfl rfl)
theorem dX2_reads_165 : decode cX2_reads 165 = .ok (.invokevirtual 62, 3) := dk_182 0 62 (dk_at dksX2_reads_7 1 rfl rfl)
theorem dX2_reads_168 : decode cX2_reads 168 = .ok (.iadd, 1) := dk_96 (dk_at dksX2_reads_7 4 rfl rfl)
theorem dX2_reads_169 : decode cX2_reads 169 = .ok (.invokevirtual 73, 3) := dk_182 0 73 (dk_at dksX2_reads_7 5 rfl rfl)
theorem dX2_reads_172 : decode cX2_reads 172 = .ok (.iinc 3 1, 3) := dk_132 3 1 (dk_at dksX2_reads_7 8 rfl rfl)
theorem dX2_reads_175 : decode cX2_reads 175 = .ok (.goto (-138), 3) := dk_167 255 118 (dk_at dksX2_reads_7 11 rfl rfl)
theorem dX2_reads_178 : decode cX2_reads 178 = .ok (.aconst_null, 1) := dk_1 (dk_at dksX2_reads_7 14 rfl rfl)
theorem dX2_reads_179 : decode cX2_reads 179 = .ok (.astore_n 3, 1) := dk_78 (dk_at dksX2_reads_7 15 rfl rfl)
theorem dX2_reads_180 : decode cX2_reads 180 = .ok (.iconst 0, 1) := dk_3 (dk_at dksX2_reads_7 16 rfl rfl)
theorem dX2_reads_181 : decode cX2_reads 181 = .ok (.istore 4, 2) := dk_54 4 (dk_at dksX2_reads_7 17 rfl rfl)
theorem dX2_reads_183 : decode cX2_reads 183 = .ok (.iload 4, 2) := dk_21 4 (dk_at dksX2_reads_7 19 rfl rfl)
theorem dX2_reads_185 : decode cX2_reads 185 = .ok (.aload_n 0, 1) := dk_42 (dk_at dksX2_reads_7 21 rfl rfl)
theorem dX2_reads_186 : decode cX2_reads 186 = .ok (.invokevirtual 62, 3) := dk_182 0 62 (dk_at dksX2_reads_8 0 rfl rfl)
theorem dX2_reads_189 : decode cX2_reads 189 = .ok (.if_icmp .ge 87, 3) := dk_162 0 87 (dk_at dksX2_reads_8 3 rfl rfl)
theorem dX2_reads_192 : decode cX2_reads 192 = .ok (.aload_n 2, 1) := dk_44 (dk_at dksX2_reads_8 6 rfl rfl)
theorem dX2_reads_193 : decode cX2_reads 193 = .ok (.aload_n 0, 1) := dk_42 (dk_at dksX2_reads_8 7 rfl rfl)
theorem dX2_reads_194 : decode cX2_reads 194 = .ok (.invokevirtual 62, 3) := dk_182 0 62 (dk_at dksX2_reads_8 8 rfl rfl)
theorem dX2_reads_197 : decode cX2_reads 197 = .ok (.aload_n 1, 1) := dk_43 (dk_at dksX2_reads_8 11 rfl rfl)
theorem dX2_reads_198 : decode cX2_reads 198 = .ok (.invokeinterface 65 1, 5) := by decide +kernel
theorem dX2_reads_203 : decode cX2_reads 203 = .ok (.imul, 1) := dk_104 (dk_at dksX2_reads_8 17 rfl rfl)
theorem dX2_reads_204 : decode cX2_reads 204 = .ok (.iload 4, 2) := dk_21 4 (dk_at dksX2_reads_8 18 rfl rfl)
theorem dX2_reads_206 : decode cX2_reads 206 = .ok (.iadd, 1) := dk_96 (dk_at dksX2_reads_8 20 rfl rfl)
theorem dX2_reads_207 : decode cX2_reads 207 = .ok (.aaload, 1) := dk_50 (dk_at dksX2_reads_8 21 rfl rfl)
theorem dX2_reads_208 : decode cX2_reads 208 = .ok (.astore 5, 2) := dk_58 5 (dk_at dksX2_reads_8 22 rfl rfl)
theorem dX2_reads_210 : decode cX2_reads 210 = .ok (.aload 5, 2) := dk_25 5 (dk_at dksX2_reads_9 0 rfl rfl)
theorem dX2_reads_212 : decode cX2_reads 212 = .ok (.ifnull 33, 3) := dk_198 0 33 (dk_at dksX2_reads_9 2 rfl rfl)
theorem dX2_reads_215 : decode cX2_reads 215 = .ok (.aload_n 0, 1) := dk_42 (dk_at dksX2_reads_9 5 rfl rfl)
theorem dX2_reads_216 : decode cX2_reads 216 = .ok (.iload 4, 2) := dk_21 4 (dk_at dksX2_reads_9 6 rfl rfl)
theorem dX2_reads_218 : decode cX2_reads 218 = .ok (.invokevirtual 87, 3) := dk_182 0 87 (dk_at dksX2_reads_9 8 rfl rfl)
theorem dX2_reads_221 : decode cX2_reads 221 = .ok (.iconst (-1), 1) := dk_2 (dk_at dksX2_reads_9 11 rfl rfl)
theorem dX2_reads_222 : decode cX2_reads 222 = .ok (.if_icmp .eq 23, 3) := dk_159 0 23 (dk_at dksX2_reads_9 12 rfl rfl)
theorem dX2_reads_225 : decode cX2_reads 225 = .ok (.aload 5, 2) := dk_25 5 (dk_at dksX2_reads_9 15 rfl rfl)
theorem dX2_reads_227 : decode cX2_reads 227 = .ok (.aload_n 0, 1) := dk_42 (dk_at dksX2_reads_9 17 rfl rfl)
theorem dX2_reads_228 : decode cX2_reads 228 = .ok (.iload 4, 2) := dk_21 4 (dk_at dksX2_reads_9 18 rfl rfl)
theorem dX2_reads_230 : decode cX2_reads 230 = .ok (.invokevirtual 87, 3) := dk_182 0 87 (dk_at dksX2_reads_9 20 rfl rfl)
theorem dX2_reads_233 : decode cX2_reads 233 = .ok (.iconst 4, 1) := dk_7 (dk_at dksX2_reads_9 23 rfl rfl)
theorem dX2_reads_234 : decode cX2_reads 234 = .ok (.aload_n 3, 1) := dk_45 (dk_at dksX2_reads_10 0 rfl rfl)
theorem dX2_reads_235 : decode cX2_reads 235 = .ok (.invokevirtual 24, 3) := dk_182 0 24 (dk_at dksX2_reads_10 1 rfl rfl)
theorem dX2_reads_238 : decode cX2_reads 238 = .ok (.ifCond .eq 7, 3) := dk_153 0 7 (dk_at dksX2_reads_10 4 rfl rfl)
theorem dX2_reads_241 : decode cX2_reads 241 = .ok (.iconst 1, 1) := dk_4 (dk_at dksX2_reads_10 7 rfl rfl)
theorem dX2_reads_242 : decode cX2_reads 242 = .ok (.goto 4, 3) := dk_167 0 4 (dk_at dksX2_reads_10 8 rfl rfl)
theorem dX2_reads_245 : decode cX2_reads 245 = .ok (.iconst 0, 1) := dk_3 (dk_at dksX2_reads_10 11 rfl rfl)
theorem dX2_reads_246 : decode cX2_reads 246 = .ok (.istore 6, 2) := dk_54 6 (dk_at dksX2_reads_10 12 rfl rfl)
theorem dX2_reads_248 : decode cX2_reads 248 = .ok (.iload 6, 2) := dk_21 6 (dk_at dksX2_reads_10 14 rfl rfl)
theorem dX2_reads_250 : decode cX2_reads 250 = .ok (.ifCond .eq 18, 3) := dk_153 0 18 (dk_at dksX2_reads_10 16 rfl rfl)
theorem dX2_reads_253 : decode cX2_reads 253 = .ok (.aload 5, 2) := dk_25 5 (dk_at dksX2_reads_10 19 rfl rfl)
theorem dX2_reads_255 : decode cX2_reads 255 = .ok (.aload_n 0, 1) := dk_42 (dk_at dksX2_reads_10 21 rfl rfl)
theorem dX2_reads_256 : decode cX2_reads 256 = .ok (.iload 4, 2) := dk_21 4 (dk_at dksX2_reads_10 22 rfl rfl)
theorem dX2_reads_258 : decode cX2_reads 258 = .ok (.invokevirtual 87, 3) := dk_182 0 87 (dk_at dksX2_reads_11 0 rfl rfl)
theorem dX2_reads_261 : decode cX2_reads 261 = .ok (.iconst 4, 1) := dk_7 (dk_at dksX2_reads_11 3 rfl rfl)
theorem dX2_reads_262 : decode cX2_reads 262 = .ok (.invokevirtual 30, 3) := dk_182 0 30 (dk_at dksX2_reads_11 4 rfl rfl)
theorem dX2_reads_265 : decode cX2_reads 265 = .ok (.goto 4, 3) := dk_167 0 4 (dk_at dksX2_reads_11 7 rfl rfl)
theorem dX2_reads_268 : decode cX2_reads 268 = .ok (.aload_n 3, 1) := dk_45 (dk_at dksX2_reads_11 10 rfl rfl)
theorem dX2_reads_269 : decode cX2_reads 269 = .ok (.astore_n 3, 1) := dk_78 (dk_at dksX2_reads_11 11 rfl rfl)
theorem dX2_reads_270 : decode cX2_reads 270 = .ok (.iinc 4 1, 3) := dk_132 4 1 (dk_at dksX2_reads_11 12 rfl rfl)
theorem dX2_reads_273 : decode cX2_reads 273 = .ok (.goto (-90), 3) := dk_167 255 166 (dk_at dksX2_reads_11 15 rfl rfl)
theorem dX2_reads_276 : decode cX2_reads 276 = .ok (.aload_n 3, 1) := dk_45 (dk_at dksX2_reads_11 18 rfl rfl)
theorem dX2_reads_277 : decode cX2_reads 277 = .ok (.areturn, 1) := dk_176 (dk_at dksX2_reads_11 19 rfl rfl)
abbrev cX2_breathes : ByteArray := prog_9_method_6_code
def yX2_breathes : MethodName := ⟨RX2, "breathes", "([LChantRules$Way;I)V"⟩
def dkwX2_breathes_3 : List UInt8 := [167, 255, 188, 177]
abbrev dktX2_breathes_3 : List UInt8 := dkwX2_breathes_3 ++ []
def dkwX2_breathes_2 : List UInt8 := [42, 25, 5, 43, 28, 28, 182, 0, 58, 153, 0, 7, 4, 167, 0, 4, 3, 128, 62, 167, 255, 206]
abbrev dktX2_breathes_2 : List UInt8 := dkwX2_breathes_2 ++ dktX2_breathes_3
def dkwX2_breathes_1 : List UInt8 := [153, 0, 46, 25, 4, 185, 0, 52, 1, 0, 192, 0, 10, 58, 5, 29, 25, 5, 193, 0, 56, 153, 0, 19]
abbrev dktX2_breathes_1 : List UInt8 := dkwX2_breathes_1 ++ dktX2_breathes_2
def dkwX2_breathes_0 : List UInt8 := [4, 62, 29, 153, 0, 70, 3, 62, 42, 182, 0, 34, 182, 0, 40, 58, 4, 25, 4, 185, 0, 46, 1, 0]
abbrev dktX2_breathes_0 : List UInt8 := dkwX2_breathes_0 ++ dktX2_breathes_1
theorem dksX2_breathes_0 : cX2_breathes.data.toList.drop 0 = dktX2_breathes_0 := by decide +kernel
theorem dksX2_breathes_1 : cX2_breathes.data.toList.drop 24 = dktX2_breathes_1 := dk_seg dksX2_breathes_0 24 rfl rfl
theorem dksX2_breathes_2 : cX2_breathes.data.toList.drop 48 = dktX2_breathes_2 := dk_seg dksX2_breathes_1 24 rfl rfl
theorem dksX2_breathes_3 : cX2_breathes.data.toList.drop 70 = dktX2_breathes_3 := dk_seg dksX2_breathes_2 22 rfl rfl
theorem dX2_breathes_0 : decode cX2_breathes 0 = .ok (.iconst 1, 1) := dk_4 (dk_at dksX2_breathes_0 0 rfl rfl)
theorem dX2_breathes_1 : decode cX2_breathes 1 = .ok (.istore_n 3, 1) := dk_62 (dk_at dksX2_breathes_0 1 rfl rfl)
theorem dX2_breathes_2 : decode cX2_breathes 2 = .ok (.iload_n 3, 1) := dk_29 (dk_at dksX2_breathes_0 2 rfl rfl)
theorem dX2_breathes_3 : decode cX2_breathes 3 = .ok (.ifCond .eq 70, 3) := dk_153 0 70 (dk_at dksX2_breathes_0 3 rfl rfl)
theorem dX2_breathes_6 : decode cX2_breathes 6 = .ok (.iconst 0, 1) := dk_3 (dk_at dksX2_breathes_0 6 rfl rfl)
theorem dX2_breathes_7 : decode cX2_breathes 7 = .ok (.istore_n 3, 1) := dk_62 (dk_at dksX2_breathes_0 7 rfl rfl)
theorem dX2_breathes_8 : decode cX2_breathes 8 = .ok (.aload_n 0, 1) := dk_42 (dk_at dksX2_breathes_0 8 rfl rfl)
theorem dX2_breathes_9 : decode cX2_breathes 9 = .ok (.invokevirtual 34, 3) := dk_182 0 34 (dk_at dksX2_breathes_0 9 rfl rfl)
theorem dX2_breathes_12 : decode cX2_breathes 12 = .ok (.invokevirtual 40, 3) := dk_182 0 40 (dk_at dksX2_breathes_0 12 rfl rfl)
theorem dX2_breathes_15 : decode cX2_breathes 15 = .ok (.astore 4, 2) := dk_58 4 (dk_at dksX2_breathes_0 15 rfl rfl)
theorem dX2_breathes_17 : decode cX2_breathes 17 = .ok (.aload 4, 2) := dk_25 4 (dk_at dksX2_breathes_0 17 rfl rfl)
theorem dX2_breathes_19 : decode cX2_breathes 19 = .ok (.invokeinterface 46 1, 5) := by decide +kernel
theorem dX2_breathes_24 : decode cX2_breathes 24 = .ok (.ifCond .eq 46, 3) := dk_153 0 46 (dk_at dksX2_breathes_1 0 rfl rfl)
theorem dX2_breathes_27 : decode cX2_breathes 27 = .ok (.aload 4, 2) := dk_25 4 (dk_at dksX2_breathes_1 3 rfl rfl)
theorem dX2_breathes_29 : decode cX2_breathes 29 = .ok (.invokeinterface 52 1, 5) := by decide +kernel
theorem dX2_breathes_34 : decode cX2_breathes 34 = .ok (.checkcast 10, 3) := dk_192 0 10 (dk_at dksX2_breathes_1 10 rfl rfl)
theorem dX2_breathes_37 : decode cX2_breathes 37 = .ok (.astore 5, 2) := dk_58 5 (dk_at dksX2_breathes_1 13 rfl rfl)
theorem dX2_breathes_39 : decode cX2_breathes 39 = .ok (.iload_n 3, 1) := dk_29 (dk_at dksX2_breathes_1 15 rfl rfl)
theorem dX2_breathes_40 : decode cX2_breathes 40 = .ok (.aload 5, 2) := dk_25 5 (dk_at dksX2_breathes_1 16 rfl rfl)
theorem dX2_breathes_42 : decode cX2_breathes 42 = .ok (.instanceof 56, 3) := dk_193 0 56 (dk_at dksX2_breathes_1 18 rfl rfl)
theorem dX2_breathes_45 : decode cX2_breathes 45 = .ok (.ifCond .eq 19, 3) := dk_153 0 19 (dk_at dksX2_breathes_1 21 rfl rfl)
theorem dX2_breathes_48 : decode cX2_breathes 48 = .ok (.aload_n 0, 1) := dk_42 (dk_at dksX2_breathes_2 0 rfl rfl)
theorem dX2_breathes_49 : decode cX2_breathes 49 = .ok (.aload 5, 2) := dk_25 5 (dk_at dksX2_breathes_2 1 rfl rfl)
theorem dX2_breathes_51 : decode cX2_breathes 51 = .ok (.aload_n 1, 1) := dk_43 (dk_at dksX2_breathes_2 3 rfl rfl)
theorem dX2_breathes_52 : decode cX2_breathes 52 = .ok (.iload_n 2, 1) := dk_28 (dk_at dksX2_breathes_2 4 rfl rfl)
theorem dX2_breathes_53 : decode cX2_breathes 53 = .ok (.iload_n 2, 1) := dk_28 (dk_at dksX2_breathes_2 5 rfl rfl)
theorem dX2_breathes_54 : decode cX2_breathes 54 = .ok (.invokevirtual 58, 3) := dk_182 0 58 (dk_at dksX2_breathes_2 6 rfl rfl)
theorem dX2_breathes_57 : decode cX2_breathes 57 = .ok (.ifCond .eq 7, 3) := dk_153 0 7 (dk_at dksX2_breathes_2 9 rfl rfl)
theorem dX2_breathes_60 : decode cX2_breathes 60 = .ok (.iconst 1, 1) := dk_4 (dk_at dksX2_breathes_2 12 rfl rfl)
theorem dX2_breathes_61 : decode cX2_breathes 61 = .ok (.goto 4, 3) := dk_167 0 4 (dk_at dksX2_breathes_2 13 rfl rfl)
theorem dX2_breathes_64 : decode cX2_breathes 64 = .ok (.iconst 0, 1) := dk_3 (dk_at dksX2_breathes_2 16 rfl rfl)
theorem dX2_breathes_65 : decode cX2_breathes 65 = .ok (.ior, 1) := dk_128 (dk_at dksX2_breathes_2 17 rfl rfl)
theorem dX2_breathes_66 : decode cX2_breathes 66 = .ok (.istore_n 3, 1) := dk_62 (dk_at dksX2_breathes_2 18 rfl rfl)
theorem dX2_breathes_67 : decode cX2_breathes 67 = .ok (.goto (-50), 3) := dk_167 255 206 (dk_at dksX2_breathes_2 19 rfl rfl)
theorem dX2_breathes_70 : decode cX2_breathes 70 = .ok (.goto (-68), 3) := dk_167 255 188 (dk_at dksX2_breathes_3 0 rfl rfl)
theorem dX2_breathes_73 : decode cX2_breathes 73 = .ok (.return_, 1) := dk_177 (dk_at dksX2_breathes_3 3 rfl rfl)
abbrev cX2_goesOver : ByteArray := prog_9_method_5_code
def yX2_goesOver : MethodName := ⟨RX2, "goesOver", "(LChantRules$Arc;[LChantRules$Way;II)Z"⟩
def dkwX2_goesOver_4 : List UInt8 := [21, 7, 172]
abbrev dktX2_goesOver_4 : List UInt8 := dkwX2_goesOver_4 ++ []
def dkwX2_goesOver_3 : List UInt8 := [185, 0, 15, 1, 0, 96, 25, 5, 43, 185, 0, 18, 1, 0, 43, 185, 0, 21, 1, 0, 182, 0, 30, 83]
abbrev dktX2_goesOver_3 : List UInt8 := dkwX2_goesOver_3 ++ dktX2_goesOver_4
def dkwX2_goesOver_2 : List UInt8 := [182, 0, 24, 153, 0, 7, 4, 167, 0, 4, 3, 54, 7, 21, 7, 153, 0, 31, 44, 21, 4, 43]
abbrev dktX2_goesOver_2 : List UInt8 := dkwX2_goesOver_2 ++ dktX2_goesOver_3
def dkwX2_goesOver_1 : List UInt8 := [58, 6, 25, 5, 198, 0, 29, 25, 5, 43, 185, 0, 18, 1, 0, 43, 185, 0, 21, 1, 0, 25, 6]
abbrev dktX2_goesOver_1 : List UInt8 := dkwX2_goesOver_1 ++ dktX2_goesOver_2
def dkwX2_goesOver_0 : List UInt8 := [44, 29, 43, 185, 0, 9, 1, 0, 96, 50, 58, 5, 44, 21, 4, 43, 185, 0, 15, 1, 0, 96, 50]
abbrev dktX2_goesOver_0 : List UInt8 := dkwX2_goesOver_0 ++ dktX2_goesOver_1
theorem dksX2_goesOver_0 : cX2_goesOver.data.toList.drop 0 = dktX2_goesOver_0 := by decide +kernel
theorem dksX2_goesOver_1 : cX2_goesOver.data.toList.drop 23 = dktX2_goesOver_1 := dk_seg dksX2_goesOver_0 23 rfl rfl
theorem dksX2_goesOver_2 : cX2_goesOver.data.toList.drop 46 = dktX2_goesOver_2 := dk_seg dksX2_goesOver_1 23 rfl rfl
theorem dksX2_goesOver_3 : cX2_goesOver.data.toList.drop 68 = dktX2_goesOver_3 := dk_seg dksX2_goesOver_2 22 rfl rfl
theorem dksX2_goesOver_4 : cX2_goesOver.data.toList.drop 92 = dktX2_goesOver_4 := dk_seg dksX2_goesOver_3 24 rfl rfl
theorem dX2_goesOver_0 : decode cX2_goesOver 0 = .ok (.aload_n 2, 1) := dk_44 (dk_at dksX2_goesOver_0 0 rfl rfl)
theorem dX2_goesOver_1 : decode cX2_goesOver 1 = .ok (.iload_n 3, 1) := dk_29 (dk_at dksX2_goesOver_0 1 rfl rfl)
theorem dX2_goesOver_2 : decode cX2_goesOver 2 = .ok (.aload_n 1, 1) := dk_43 (dk_at dksX2_goesOver_0 2 rfl rfl)
theorem dX2_goesOver_3 : decode cX2_goesOver 3 = .ok (.invokeinterface 9 1, 5) := by decide +kernel
theorem dX2_goesOver_8 : decode cX2_goesOver 8 = .ok (.iadd, 1) := dk_96 (dk_at dksX2_goesOver_0 8 rfl rfl)
theorem dX2_goesOver_9 : decode cX2_goesOver 9 = .ok (.aaload, 1) := dk_50 (dk_at dksX2_goesOver_0 9 rfl rfl)
theorem dX2_goesOver_10 : decode cX2_goesOver 10 = .ok (.astore 5, 2) := dk_58 5 (dk_at dksX2_goesOver_0 10 rfl rfl)
theorem dX2_goesOver_12 : decode cX2_goesOver 12 = .ok (.aload_n 2, 1) := dk_44 (dk_at dksX2_goesOver_0 12 rfl rfl)
theorem dX2_goesOver_13 : decode cX2_goesOver 13 = .ok (.iload 4, 2) := dk_21 4 (dk_at dksX2_goesOver_0 13 rfl rfl)
theorem dX2_goesOver_15 : decode cX2_goesOver 15 = .ok (.aload_n 1, 1) := dk_43 (dk_at dksX2_goesOver_0 15 rfl rfl)
theorem dX2_goesOver_16 : decode cX2_goesOver 16 = .ok (.invokeinterface 15 1, 5) := by decide +kernel
theorem dX2_goesOver_21 : decode cX2_goesOver 21 = .ok (.iadd, 1) := dk_96 (dk_at dksX2_goesOver_0 21 rfl rfl)
theorem dX2_goesOver_22 : decode cX2_goesOver 22 = .ok (.aaload, 1) := dk_50 (dk_at dksX2_goesOver_0 22 rfl rfl)
theorem dX2_goesOver_23 : decode cX2_goesOver 23 = .ok (.astore 6, 2) := dk_58 6 (dk_at dksX2_goesOver_1 0 rfl rfl)
theorem dX2_goesOver_25 : decode cX2_goesOver 25 = .ok (.aload 5, 2) := dk_25 5 (dk_at dksX2_goesOver_1 2 rfl rfl)
theorem dX2_goesOver_27 : decode cX2_goesOver 27 = .ok (.ifnull 29, 3) := dk_198 0 29 (dk_at dksX2_goesOver_1 4 rfl rfl)
theorem dX2_goesOver_30 : decode cX2_goesOver 30 = .ok (.aload 5, 2) := dk_25 5 (dk_at dksX2_goesOver_1 7 rfl rfl)
theorem dX2_goesOver_32 : decode cX2_goesOver 32 = .ok (.aload_n 1, 1) := dk_43 (dk_at dksX2_goesOver_1 9 rfl rfl)
theorem dX2_goesOver_33 : decode cX2_goesOver 33 = .ok (.invokeinterface 18 1, 5) := by decide +kernel
theorem dX2_goesOver_38 : decode cX2_goesOver 38 = .ok (.aload_n 1, 1) := dk_43 (dk_at dksX2_goesOver_1 15 rfl rfl)
theorem dX2_goesOver_39 : decode cX2_goesOver 39 = .ok (.invokeinterface 21 1, 5) := by decide +kernel
theorem dX2_goesOver_44 : decode cX2_goesOver 44 = .ok (.aload 6, 2) := dk_25 6 (dk_at dksX2_goesOver_1 21 rfl rfl)
theorem dX2_goesOver_46 : decode cX2_goesOver 46 = .ok (.invokevirtual 24, 3) := dk_182 0 24 (dk_at dksX2_goesOver_2 0 rfl rfl)
theorem dX2_goesOver_49 : decode cX2_goesOver 49 = .ok (.ifCond .eq 7, 3) := dk_153 0 7 (dk_at dksX2_goesOver_2 3 rfl rfl)
theorem dX2_goesOver_52 : decode cX2_goesOver 52 = .ok (.iconst 1, 1) := dk_4 (dk_at dksX2_goesOver_2 6 rfl rfl)
theorem dX2_goesOver_53 : decode cX2_goesOver 53 = .ok (.goto 4, 3) := dk_167 0 4 (dk_at dksX2_goesOver_2 7 rfl rfl)
theorem dX2_goesOver_56 : decode cX2_goesOver 56 = .ok (.iconst 0, 1) := dk_3 (dk_at dksX2_goesOver_2 10 rfl rfl)
theorem dX2_goesOver_57 : decode cX2_goesOver 57 = .ok (.istore 7, 2) := dk_54 7 (dk_at dksX2_goesOver_2 11 rfl rfl)
theorem dX2_goesOver_59 : decode cX2_goesOver 59 = .ok (.iload 7, 2) := dk_21 7 (dk_at dksX2_goesOver_2 13 rfl rfl)
theorem dX2_goesOver_61 : decode cX2_goesOver 61 = .ok (.ifCond .eq 31, 3) := dk_153 0 31 (dk_at dksX2_goesOver_2 15 rfl rfl)
theorem dX2_goesOver_64 : decode cX2_goesOver 64 = .ok (.aload_n 2, 1) := dk_44 (dk_at dksX2_goesOver_2 18 rfl rfl)
theorem dX2_goesOver_65 : decode cX2_goesOver 65 = .ok (.iload 4, 2) := dk_21 4 (dk_at dksX2_goesOver_2 19 rfl rfl)
theorem dX2_goesOver_67 : decode cX2_goesOver 67 = .ok (.aload_n 1, 1) := dk_43 (dk_at dksX2_goesOver_2 21 rfl rfl)
theorem dX2_goesOver_68 : decode cX2_goesOver 68 = .ok (.invokeinterface 15 1, 5) := by decide +kernel
theorem dX2_goesOver_73 : decode cX2_goesOver 73 = .ok (.iadd, 1) := dk_96 (dk_at dksX2_goesOver_3 5 rfl rfl)
theorem dX2_goesOver_74 : decode cX2_goesOver 74 = .ok (.aload 5, 2) := dk_25 5 (dk_at dksX2_goesOver_3 6 rfl rfl)
theorem dX2_goesOver_76 : decode cX2_goesOver 76 = .ok (.aload_n 1, 1) := dk_43 (dk_at dksX2_goesOver_3 8 rfl rfl)
theorem dX2_goesOver_77 : decode cX2_goesOver 77 = .ok (.invokeinterface 18 1, 5) := by decide +kernel
theorem dX2_goesOver_82 : decode cX2_goesOver 82 = .ok (.aload_n 1, 1) := dk_43 (dk_at dksX2_goesOver_3 14 rfl rfl)
theorem dX2_goesOver_83 : decode cX2_goesOver 83 = .ok (.invokeinterface 21 1, 5) := by decide +kernel
theorem dX2_goesOver_88 : decode cX2_goesOver 88 = .ok (.invokevirtual 30, 3) := dk_182 0 30 (dk_at dksX2_goesOver_3 20 rfl rfl)
theorem dX2_goesOver_91 : decode cX2_goesOver 91 = .ok (.aastore, 1) := dk_83 (dk_at dksX2_goesOver_3 23 rfl rfl)
theorem dX2_goesOver_92 : decode cX2_goesOver 92 = .ok (.iload 7, 2) := dk_21 7 (dk_at dksX2_goesOver_4 0 rfl rfl)
theorem dX2_goesOver_94 : decode cX2_goesOver 94 = .ok (.ireturn, 1) := dk_172 (dk_at dksX2_goesOver_4 2 rfl rfl)
abbrev cX2_usefulMany : ByteArray := prog_9_method_12_code
def yX2_usefulMany : MethodName := ⟨RX2, "usefulMany", "()I"⟩
def dkwX2_usefulMany_1 : List UInt8 := [54, 5, 27, 21, 5, 153, 0, 7, 4, 167, 0, 4, 3, 96, 60, 132, 4, 1, 167, 255, 228, 27, 172]
abbrev dktX2_usefulMany_1 : List UInt8 := dkwX2_usefulMany_1 ++ []
def dkwX2_usefulMany_0 : List UInt8 := [3, 60, 42, 182, 0, 98, 77, 44, 190, 62, 3, 54, 4, 21, 4, 29, 162, 0, 28, 44, 21, 4, 51]
abbrev dktX2_usefulMany_0 : List UInt8 := dkwX2_usefulMany_0 ++ dktX2_usefulMany_1
theorem dksX2_usefulMany_0 : cX2_usefulMany.data.toList.drop 0 = dktX2_usefulMany_0 := by decide +kernel
theorem dksX2_usefulMany_1 : cX2_usefulMany.data.toList.drop 23 = dktX2_usefulMany_1 := dk_seg dksX2_usefulMany_0 23 rfl rfl
theorem dX2_usefulMany_0 : decode cX2_usefulMany 0 = .ok (.iconst 0, 1) := dk_3 (dk_at dksX2_usefulMany_0 0 rfl rfl)
theorem dX2_usefulMany_1 : decode cX2_usefulMany 1 = .ok (.istore_n 1, 1) := dk_60 (dk_at dksX2_usefulMany_0 1 rfl rfl)
theorem dX2_usefulMany_2 : decode cX2_usefulMany 2 = .ok (.aload_n 0, 1) := dk_42 (dk_at dksX2_usefulMany_0 2 rfl rfl)
theorem dX2_usefulMany_3 : decode cX2_usefulMany 3 = .ok (.invokevirtual 98, 3) := dk_182 0 98 (dk_at dksX2_usefulMany_0 3 rfl rfl)
theorem dX2_usefulMany_6 : decode cX2_usefulMany 6 = .ok (.astore_n 2, 1) := dk_77 (dk_at dksX2_usefulMany_0 6 rfl rfl)
theorem dX2_usefulMany_7 : decode cX2_usefulMany 7 = .ok (.aload_n 2, 1) := dk_44 (dk_at dksX2_usefulMany_0 7 rfl rfl)
theorem dX2_usefulMany_8 : decode cX2_usefulMany 8 = .ok (.arraylength, 1) := dk_190 (dk_at dksX2_usefulMany_0 8 rfl rfl)
theorem dX2_usefulMany_9 : decode cX2_usefulMany 9 = .ok (.istore_n 3, 1) := dk_62 (dk_at dksX2_usefulMany_0 9 rfl rfl)
theorem dX2_usefulMany_10 : decode cX2_usefulMany 10 = .ok (.iconst 0, 1) := dk_3 (dk_at dksX2_usefulMany_0 10 rfl rfl)
theorem dX2_usefulMany_11 : decode cX2_usefulMany 11 = .ok (.istore 4, 2) := dk_54 4 (dk_at dksX2_usefulMany_0 11 rfl rfl)
theorem dX2_usefulMany_13 : decode cX2_usefulMany 13 = .ok (.iload 4, 2) := dk_21 4 (dk_at dksX2_usefulMany_0 13 rfl rfl)
theorem dX2_usefulMany_15 : decode cX2_usefulMany 15 = .ok (.iload_n 3, 1) := dk_29 (dk_at dksX2_usefulMany_0 15 rfl rfl)
theorem dX2_usefulMany_16 : decode cX2_usefulMany 16 = .ok (.if_icmp .ge 28, 3) := dk_162 0 28 (dk_at dksX2_usefulMany_0 16 rfl rfl)
theorem dX2_usefulMany_19 : decode cX2_usefulMany 19 = .ok (.aload_n 2, 1) := dk_44 (dk_at dksX2_usefulMany_0 19 rfl rfl)
theorem dX2_usefulMany_20 : decode cX2_usefulMany 20 = .ok (.iload 4, 2) := dk_21 4 (dk_at dksX2_usefulMany_0 20 rfl rfl)
theorem dX2_usefulMany_22 : decode cX2_usefulMany 22 = .ok (.baload, 1) := dk_51 (dk_at dksX2_usefulMany_0 22 rfl rfl)
theorem dX2_usefulMany_23 : decode cX2_usefulMany 23 = .ok (.istore 5, 2) := dk_54 5 (dk_at dksX2_usefulMany_1 0 rfl rfl)
theorem dX2_usefulMany_25 : decode cX2_usefulMany 25 = .ok (.iload_n 1, 1) := dk_27 (dk_at dksX2_usefulMany_1 2 rfl rfl)
theorem dX2_usefulMany_26 : decode cX2_usefulMany 26 = .ok (.iload 5, 2) := dk_21 5 (dk_at dksX2_usefulMany_1 3 rfl rfl)
theorem dX2_usefulMany_28 : decode cX2_usefulMany 28 = .ok (.ifCond .eq 7, 3) := dk_153 0 7 (dk_at dksX2_usefulMany_1 5 rfl rfl)
theorem dX2_usefulMany_31 : decode cX2_usefulMany 31 = .ok (.iconst 1, 1) := dk_4 (dk_at dksX2_usefulMany_1 8 rfl rfl)
theorem dX2_usefulMany_32 : decode cX2_usefulMany 32 = .ok (.goto 4, 3) := dk_167 0 4 (dk_at dksX2_usefulMany_1 9 rfl rfl)
theorem dX2_usefulMany_35 : decode cX2_usefulMany 35 = .ok (.iconst 0, 1) := dk_3 (dk_at dksX2_usefulMany_1 12 rfl rfl)
theorem dX2_usefulMany_36 : decode cX2_usefulMany 36 = .ok (.iadd, 1) := dk_96 (dk_at dksX2_usefulMany_1 13 rfl rfl)
theorem dX2_usefulMany_37 : decode cX2_usefulMany 37 = .ok (.istore_n 1, 1) := dk_60 (dk_at dksX2_usefulMany_1 14 rfl rfl)
theorem dX2_usefulMany_38 : decode cX2_usefulMany 38 = .ok (.iinc 4 1, 3) := dk_132 4 1 (dk_at dksX2_usefulMany_1 15 rfl rfl)
theorem dX2_usefulMany_41 : decode cX2_usefulMany 41 = .ok (.goto (-28), 3) := dk_167 255 228 (dk_at dksX2_usefulMany_1 18 rfl rfl)
theorem dX2_usefulMany_44 : decode cX2_usefulMany 44 = .ok (.iload_n 1, 1) := dk_27 (dk_at dksX2_usefulMany_1 21 rfl rfl)
theorem dX2_usefulMany_45 : decode cX2_usefulMany 45 = .ok (.ireturn, 1) := dk_172 (dk_at dksX2_usefulMany_1 22 rfl rfl)
abbrev cX2_leastOf : ByteArray := prog_9_method_13_code
def yX2_leastOf : MethodName := ⟨RX2, "leastOf", "(Z)I"⟩
def dkwX2_leastOf_10 : List UInt8 := [16, 241, 167, 0, 5, 21, 4, 172]
abbrev dktX2_leastOf_10 : List UInt8 := dkwX2_leastOf_10 ++ []
def dkwX2_leastOf_9 : List UInt8 := [54, 6, 21, 4, 21, 6, 184, 0, 102, 54, 4, 132, 5, 1, 167, 255, 199, 21, 4, 18, 101, 161, 0, 8]
abbrev dktX2_leastOf_9 : List UInt8 := dkwX2_leastOf_9 ++ dktX2_leastOf_10
def dkwX2_leastOf_8 : List UInt8 := [18, 101, 167, 0, 22, 44, 21, 5, 46, 27, 153, 0, 12, 42, 21, 5, 182, 0, 87, 167, 0, 4, 3, 96]
abbrev dktX2_leastOf_8 : List UInt8 := dkwX2_leastOf_8 ++ dktX2_leastOf_9
def dkwX2_leastOf_7 : List UInt8 := [54, 4, 3, 54, 5, 21, 5, 42, 182, 0, 62, 162, 0, 54, 42, 21, 5, 182, 0, 87, 2, 160, 0, 8]
abbrev dktX2_leastOf_7 : List UInt8 := dkwX2_leastOf_7 ++ dktX2_leastOf_8
def dkwX2_leastOf_6 : List UInt8 := [21, 6, 44, 25, 5, 185, 0, 15, 1, 0, 46, 184, 0, 102, 79, 167, 255, 150, 167, 255, 132, 18, 101]
abbrev dktX2_leastOf_6 : List UInt8 := dkwX2_leastOf_6 ++ dktX2_leastOf_7
def dkwX2_leastOf_5 : List UInt8 := [185, 0, 15, 1, 0, 46, 162, 0, 7, 4, 167, 0, 4, 3, 128, 62, 44, 25, 5, 185, 0, 15, 1, 0]
abbrev dktX2_leastOf_5 : List UInt8 := dkwX2_leastOf_5 ++ dktX2_leastOf_6
def dkwX2_leastOf_4 : List UInt8 := [193, 0, 77, 153, 0, 7, 4, 167, 0, 4, 3, 96, 54, 6, 29, 21, 6, 44, 25, 5]
abbrev dktX2_leastOf_4 : List UInt8 := dkwX2_leastOf_4 ++ dktX2_leastOf_5
def dkwX2_leastOf_3 : List UInt8 := [25, 5, 185, 0, 9, 1, 0, 46, 27, 153, 0, 13, 25, 5, 185, 0, 18, 1, 0, 167, 0, 16, 25, 5]
abbrev dktX2_leastOf_3 : List UInt8 := dkwX2_leastOf_3 ++ dktX2_leastOf_4
def dkwX2_leastOf_2 : List UInt8 := [25, 4, 185, 0, 46, 1, 0, 153, 0, 102, 25, 4, 185, 0, 52, 1, 0, 192, 0, 10, 58, 5, 44]
abbrev dktX2_leastOf_2 : List UInt8 := dkwX2_leastOf_2 ++ dktX2_leastOf_3
def dkwX2_leastOf_1 : List UInt8 := [132, 3, 1, 167, 255, 240, 4, 62, 29, 153, 0, 126, 3, 62, 42, 182, 0, 34, 182, 0, 40, 58, 4]
abbrev dktX2_leastOf_1 : List UInt8 := dkwX2_leastOf_1 ++ dktX2_leastOf_2
def dkwX2_leastOf_0 : List UInt8 := [42, 182, 0, 62, 188, 10, 77, 4, 62, 29, 42, 182, 0, 62, 162, 0, 14, 44, 29, 18, 101, 79]
abbrev dktX2_leastOf_0 : List UInt8 := dkwX2_leastOf_0 ++ dktX2_leastOf_1
theorem dksX2_leastOf_0 : cX2_leastOf.data.toList.drop 0 = dktX2_leastOf_0 := by decide +kernel
theorem dksX2_leastOf_1 : cX2_leastOf.data.toList.drop 22 = dktX2_leastOf_1 := dk_seg dksX2_leastOf_0 22 rfl rfl
theorem dksX2_leastOf_2 : cX2_leastOf.data.toList.drop 45 = dktX2_leastOf_2 := dk_seg dksX2_leastOf_1 23 rfl rfl
theorem dksX2_leastOf_3 : cX2_leastOf.data.toList.drop 68 = dktX2_leastOf_3 := dk_seg dksX2_leastOf_2 23 rfl rfl
theorem dksX2_leastOf_4 : cX2_leastOf.data.toList.drop 92 = dktX2_leastOf_4 := dk_seg dksX2_leastOf_3 24 rfl rfl
theorem dksX2_leastOf_5 : cX2_leastOf.data.toList.drop 112 = dktX2_leastOf_5 := dk_seg dksX2_leastOf_4 20 rfl rfl
theorem dksX2_leastOf_6 : cX2_leastOf.data.toList.drop 136 = dktX2_leastOf_6 := dk_seg dksX2_leastOf_5 24 rfl rfl
theorem dksX2_leastOf_7 : cX2_leastOf.data.toList.drop 159 = dktX2_leastOf_7 := dk_seg dksX2_leastOf_6 23 rfl rfl
theorem dksX2_leastOf_8 : cX2_leastOf.data.toList.drop 183 = dktX2_leastOf_8 := dk_seg dksX2_leastOf_7 24 rfl rfl
theorem dksX2_leastOf_9 : cX2_leastOf.data.toList.drop 207 = dktX2_leastOf_9 := dk_seg dksX2_leastOf_8 24 rfl rfl
theorem dksX2_leastOf_10 : cX2_leastOf.data.toList.drop 231 = dktX2_leastOf_10 := dk_seg dksX2_leastOf_9 24 rfl rfl
theorem dX2_leastOf_0 : decode cX2_leastOf 0 = .ok (.aload_n 0, 1) := dk_42 (dk_at dksX2_leastOf_0 0 rfl rfl)
theorem dX2_leastOf_1 : decode cX2_leastOf 1 = .ok (.invokevirtual 62, 3) := dk_182 0 62 (dk_at dksX2_leastOf_0 1 rfl rfl)
theorem dX2_leastOf_4 : decode cX2_leastOf 4 = .ok (.newarray .int, 2) := dk_188_10 (dk_at dksX2_leastOf_0 4 rfl rfl)
theorem dX2_leastOf_6 : decode cX2_leastOf 6 = .ok (.astore_n 2, 1) := dk_77 (dk_at dksX2_leastOf_0 6 rfl rfl)
theorem dX2_leastOf_7 : decode cX2_leastOf 7 = .ok (.iconst 1, 1) := dk_4 (dk_at dksX2_leastOf_0 7 rfl rfl)
theorem dX2_leastOf_8 : decode cX2_leastOf 8 = .ok (.istore_n 3, 1) := dk_62 (dk_at dksX2_leastOf_0 8 rfl rfl)
theorem dX2_leastOf_9 : decode cX2_leastOf 9 = .ok (.iload_n 3, 1) := dk_29 (dk_at dksX2_leastOf_0 9 rfl rfl)
theorem dX2_leastOf_10 : decode cX2_leastOf 10 = .ok (.aload_n 0, 1) := dk_42 (dk_at dksX2_leastOf_0 10 rfl rfl)
theorem dX2_leastOf_11 : decode cX2_leastOf 11 = .ok (.invokevirtual 62, 3) := dk_182 0 62 (dk_at dksX2_leastOf_0 11 rfl rfl)
theorem dX2_leastOf_14 : decode cX2_leastOf 14 = .ok (.if_icmp .ge 14, 3) := dk_162 0 14 (dk_at dksX2_leastOf_0 14 rfl rfl)
theorem dX2_leastOf_17 : decode cX2_leastOf 17 = .ok (.aload_n 2, 1) := dk_44 (dk_at dksX2_leastOf_0 17 rfl rfl)
theorem dX2_leastOf_18 : decode cX2_leastOf 18 = .ok (.iload_n 3, 1) := dk_29 (dk_at dksX2_leastOf_0 18 rfl rfl)
theorem dX2_leastOf_19 : decode cX2_leastOf 19 = .ok (.ldc 101, 2) := dk_18 101 (dk_at dksX2_leastOf_0 19 rfl rfl)
theorem dX2_leastOf_21 : decode cX2_leastOf 21 = .ok (.iastore, 1) := dk_79 (dk_at dksX2_leastOf_0 21 rfl rfl)
theorem dX2_leastOf_22 : decode cX2_leastOf 22 = .ok (.iinc 3 1, 3) := dk_132 3 1 (dk_at dksX2_leastOf_1 0 rfl rfl)
theorem dX2_leastOf_25 : decode cX2_leastOf 25 = .ok (.goto (-16), 3) := dk_167 255 240 (dk_at dksX2_leastOf_1 3 rfl rfl)
theorem dX2_leastOf_28 : decode cX2_leastOf 28 = .ok (.iconst 1, 1) := dk_4 (dk_at dksX2_leastOf_1 6 rfl rfl)
theorem dX2_leastOf_29 : decode cX2_leastOf 29 = .ok (.istore_n 3, 1) := dk_62 (dk_at dksX2_leastOf_1 7 rfl rfl)
theorem dX2_leastOf_30 : decode cX2_leastOf 30 = .ok (.iload_n 3, 1) := dk_29 (dk_at dksX2_leastOf_1 8 rfl rfl)
theorem dX2_leastOf_31 : decode cX2_leastOf 31 = .ok (.ifCond .eq 126, 3) := dk_153 0 126 (dk_at dksX2_leastOf_1 9 rfl rfl)
theorem dX2_leastOf_34 : decode cX2_leastOf 34 = .ok (.iconst 0, 1) := dk_3 (dk_at dksX2_leastOf_1 12 rfl rfl)
theorem dX2_leastOf_35 : decode cX2_leastOf 35 = .ok (.istore_n 3, 1) := dk_62 (dk_at dksX2_leastOf_1 13 rfl rfl)
theorem dX2_leastOf_36 : decode cX2_leastOf 36 = .ok (.aload_n 0, 1) := dk_42 (dk_at dksX2_leastOf_1 14 rfl rfl)
theorem dX2_leastOf_37 : decode cX2_leastOf 37 = .ok (.invokevirtual 34, 3) := dk_182 0 34 (dk_at dksX2_leastOf_1 15 rfl rfl)
theorem dX2_leastOf_40 : decode cX2_leastOf 40 = .ok (.invokevirtual 40, 3) := dk_182 0 40 (dk_at dksX2_leastOf_1 18 rfl rfl)
theorem dX2_leastOf_43 : decode cX2_leastOf 43 = .ok (.astore 4, 2) := dk_58 4 (dk_at dksX2_leastOf_1 21 rfl rfl)
theorem dX2_leastOf_45 : decode cX2_leastOf 45 = .ok (.aload 4, 2) := dk_25 4 (dk_at dksX2_leastOf_2 0 rfl rfl)
theorem dX2_leastOf_47 : decode cX2_leastOf 47 = .ok (.invokeinterface 46 1, 5) := by decide +kernel
theorem dX2_leastOf_52 : decode cX2_leastOf 52 = .ok (.ifCond .eq 102, 3) := dk_153 0 102 (dk_at dksX2_leastOf_2 7 rfl rfl)
theorem dX2_leastOf_55 : decode cX2_leastOf 55 = .ok (.aload 4, 2) := dk_25 4 (dk_at dksX2_leastOf_2 10 rfl rfl)
theorem dX2_leastOf_57 : decode cX2_leastOf 57 = .ok (.invokeinterface 52 1, 5) := by decide +kernel
theorem dX2_leastOf_62 : decode cX2_leastOf 62 = .ok (.checkcast 10, 3) := dk_192 0 10 (dk_at dksX2_leastOf_2 17 rfl rfl)
theorem dX2_leastOf_65 : decode cX2_leastOf 65 = .ok (.astore 5, 2) := dk_58 5 (dk_at dksX2_leastOf_2 20 rfl rfl)
theorem dX2_leastOf_67 : decode cX2_leastOf 67 = .ok (.aload_n 2, 1) := dk_44 (dk_at dksX2_leastOf_2 22 rfl rfl)
theorem dX2_leastOf_68 : decode cX2_leastOf 68 = .ok (.aload 5, 2) := dk_25 5 (dk_at dksX2_leastOf_3 0 rfl rfl)
theorem dX2_leastOf_70 : decode cX2_leastOf 70 = .ok (.invokeinterface 9 1, 5) := by decide +kernel
theorem dX2_leastOf_75 : decode cX2_leastOf 75 = .ok (.iaload, 1) := dk_46 (dk_at dksX2_leastOf_3 7 rfl rfl)
theorem dX2_leastOf_76 : decode cX2_leastOf 76 = .ok (.iload_n 1, 1) := dk_27 (dk_at dksX2_leastOf_3 8 rfl rfl)
theorem dX2_leastOf_77 : decode cX2_leastOf 77 = .ok (.ifCond .eq 13, 3) := dk_153 0 13 (dk_at dksX2_leastOf_3 9 rfl rfl)
theorem dX2_leastOf_80 : decode cX2_leastOf 80 = .ok (.aload 5, 2) := dk_25 5 (dk_at dksX2_leastOf_3 12 rfl rfl)
theorem dX2_leastOf_82 : decode cX2_leastOf 82 = .ok (.invokeinterface 18 1, 5) := by decide +kernel
theorem dX2_leastOf_87 : decode cX2_leastOf 87 = .ok (.goto 16, 3) := dk_167 0 16 (dk_at dksX2_leastOf_3 19 rfl rfl)
theorem dX2_leastOf_90 : decode cX2_leastOf 90 = .ok (.aload 5, 2) := dk_25 5 (dk_at dksX2_leastOf_3 22 rfl rfl)
theorem dX2_leastOf_92 : decode cX2_leastOf 92 = .ok (.instanceof 77, 3) := dk_193 0 77 (dk_at dksX2_leastOf_4 0 rfl rfl)
theorem dX2_leastOf_95 : decode cX2_leastOf 95 = .ok (.ifCond .eq 7, 3) := dk_153 0 7 (dk_at dksX2_leastOf_4 3 rfl rfl)
theorem dX2_leastOf_98 : decode cX2_leastOf 98 = .ok (.iconst 1, 1) := dk_4 (dk_at dksX2_leastOf_4 6 rfl rfl)
theorem dX2_leastOf_99 : decode cX2_leastOf 99 = .ok (.goto 4, 3) := dk_167 0 4 (dk_at dksX2_leastOf_4 7 rfl rfl)
theorem dX2_leastOf_102 : decode cX2_leastOf 102 = .ok (.iconst 0, 1) := dk_3 (dk_at dksX2_leastOf_4 10 rfl rfl)
theorem dX2_leastOf_103 : decode cX2_leastOf 103 = .ok (.iadd, 1) := dk_96 (dk_at dksX2_leastOf_4 11 rfl rfl)
theorem dX2_leastOf_104 : decode cX2_leastOf 104 = .ok (.istore 6, 2) := dk_54 6 (dk_at dksX2_leastOf_4 12 rfl rfl)
theorem dX2_leastOf_106 : decode cX2_leastOf 106 = .ok (.iload_n 3, 1) := dk_29 (dk_at dksX2_leastOf_4 14 rfl rfl)
theorem dX2_leastOf_107 : decode cX2_leastOf 107 = .ok (.iload 6, 2) := dk_21 6 (dk_at dksX2_leastOf_4 15 rfl rfl)
theorem dX2_leastOf_109 : decode cX2_leastOf 109 = .ok (.aload_n 2, 1) := dk_44 (dk_at dksX2_leastOf_4 17 rfl rfl)
theorem dX2_leastOf_110 : decode cX2_leastOf 110 = .ok (.aload 5, 2) := dk_25 5 (dk_at dksX2_leastOf_4 18 rfl rfl)
theorem dX2_leastOf_112 : decode cX2_leastOf 112 = .ok (.invokeinterface 15 1, 5) := by decide +kernel
theorem dX2_leastOf_117 : decode cX2_leastOf 117 = .ok (.iaload, 1) := dk_46 (dk_at dksX2_leastOf_5 5 rfl rfl)
theorem dX2_leastOf_118 : decode cX2_leastOf 118 = .ok (.if_icmp .ge 7, 3) := dk_162 0 7 (dk_at dksX2_leastOf_5 6 rfl rfl)
theorem dX2_leastOf_121 : decode cX2_leastOf 121 = .ok (.iconst 1, 1) := dk_4 (dk_at dksX2_leastOf_5 9 rfl rfl)
theorem dX2_leastOf_122 : decode cX2_leastOf 122 = .ok (.goto 4, 3) := dk_167 0 4 (dk_at dksX2_leastOf_5 10 rfl rfl)
theorem dX2_leastOf_125 : decode cX2_leastOf 125 = .ok (.iconst 0, 1) := dk_3 (dk_at dksX2_leastOf_5 13 rfl rfl)
theorem dX2_leastOf_126 : decode cX2_leastOf 126 = .ok (.ior, 1) := dk_128 (dk_at dksX2_leastOf_5 14 rfl rfl)
theorem dX2_leastOf_127 : decode cX2_leastOf 127 = .ok (.istore_n 3, 1) := dk_62 (dk_at dksX2_leastOf_5 15 rfl rfl)
theorem dX2_leastOf_128 : decode cX2_leastOf 128 = .ok (.aload_n 2, 1) := dk_44 (dk_at dksX2_leastOf_5 16 rfl rfl)
theorem dX2_leastOf_129 : decode cX2_leastOf 129 = .ok (.aload 5, 2) := dk_25 5 (dk_at dksX2_leastOf_5 17 rfl rfl)
theorem dX2_leastOf_131 : decode cX2_leastOf 131 = .ok (.invokeinterface 15 1, 5) := by decide +kernel
theorem dX2_leastOf_136 : decode cX2_leastOf 136 = .ok (.iload 6, 2) := dk_21 6 (dk_at dksX2_leastOf_6 0 rfl rfl)
theorem dX2_leastOf_138 : decode cX2_leastOf 138 = .ok (.aload_n 2, 1) := dk_44 (dk_at dksX2_leastOf_6 2 rfl rfl)
theorem dX2_leastOf_139 : decode cX2_leastOf 139 = .ok (.aload 5, 2) := dk_25 5 (dk_at dksX2_leastOf_6 3 rfl rfl)
theorem dX2_leastOf_141 : decode cX2_leastOf 141 = .ok (.invokeinterface 15 1, 5) := by decide +kernel
theorem dX2_leastOf_146 : decode cX2_leastOf 146 = .ok (.iaload, 1) := dk_46 (dk_at dksX2_leastOf_6 10 rfl rfl)
theorem dX2_leastOf_147 : decode cX2_leastOf 147 = .ok (.invokestatic 102, 3) := dk_184 0 102 (dk_at dksX2_leastOf_6 11 rfl rfl)
theorem dX2_leastOf_150 : decode cX2_leastOf 150 = .ok (.iastore, 1) := dk_79 (dk_at dksX2_leastOf_6 14 rfl rfl)
theorem dX2_leastOf_151 : decode cX2_leastOf 151 = .ok (.goto (-106), 3) := dk_167 255 150 (dk_at dksX2_leastOf_6 15 rfl rfl)
theorem dX2_leastOf_154 : decode cX2_leastOf 154 = .ok (.goto (-124), 3) := dk_167 255 132 (dk_at dksX2_leastOf_6 18 rfl rfl)
theorem dX2_leastOf_157 : decode cX2_leastOf 157 = .ok (.ldc 101, 2) := dk_18 101 (dk_at dksX2_leastOf_6 21 rfl rfl)
theorem dX2_leastOf_159 : decode cX2_leastOf 159 = .ok (.istore 4, 2) := dk_54 4 (dk_at dksX2_leastOf_7 0 rfl rfl)
theorem dX2_leastOf_161 : decode cX2_leastOf 161 = .ok (.iconst 0, 1) := dk_3 (dk_at dksX2_leastOf_7 2 rfl rfl)
theorem dX2_leastOf_162 : decode cX2_leastOf 162 = .ok (.istore 5, 2) := dk_54 5 (dk_at dksX2_leastOf_7 3 rfl rfl)
theorem dX2_leastOf_164 : decode cX2_leastOf 164 = .ok (.iload 5, 2) := dk_21 5 (dk_at dksX2_leastOf_7 5 rfl rfl)
theorem dX2_leastOf_166 : decode cX2_leastOf 166 = .ok (.aload_n 0, 1) := dk_42 (dk_at dksX2_leastOf_7 7 rfl rfl)
theorem dX2_leastOf_167 : decode cX2_leastOf 167 = .ok (.invokevirtual 62, 3) := dk_182 0 62 (dk_at dksX2_leastOf_7 8 rfl rfl)
theorem dX2_leastOf_170 : decode cX2_leastOf 170 = .ok (.if_icmp .ge 54, 3) := dk_162 0 54 (dk_at dksX2_leastOf_7 11 rfl rfl)
theorem dX2_leastOf_173 : decode cX2_leastOf 173 = .ok (.aload_n 0, 1) := dk_42 (dk_at dksX2_leastOf_7 14 rfl rfl)
theorem dX2_leastOf_174 : decode cX2_leastOf 174 = .ok (.iload 5, 2) := dk_21 5 (dk_at dksX2_leastOf_7 15 rfl rfl)
theorem dX2_leastOf_176 : decode cX2_leastOf 176 = .ok (.invokevirtual 87, 3) := dk_182 0 87 (dk_at dksX2_leastOf_7 17 rfl rfl)
theorem dX2_leastOf_179 : decode cX2_leastOf 179 = .ok (.iconst (-1), 1) := dk_2 (dk_at dksX2_leastOf_7 20 rfl rfl)
theorem dX2_leastOf_180 : decode cX2_leastOf 180 = .ok (.if_icmp .ne 8, 3) := dk_160 0 8 (dk_at dksX2_leastOf_7 21 rfl rfl)
theorem dX2_leastOf_183 : decode cX2_leastOf 183 = .ok (.ldc 101, 2) := dk_18 101 (dk_at dksX2_leastOf_8 0 rfl rfl)
theorem dX2_leastOf_185 : decode cX2_leastOf 185 = .ok (.goto 22, 3) := dk_167 0 22 (dk_at dksX2_leastOf_8 2 rfl rfl)
theorem dX2_leastOf_188 : decode cX2_leastOf 188 = .ok (.aload_n 2, 1) := dk_44 (dk_at dksX2_leastOf_8 5 rfl rfl)
theorem dX2_leastOf_189 : decode cX2_leastOf 189 = .ok (.iload 5, 2) := dk_21 5 (dk_at dksX2_leastOf_8 6 rfl rfl)
theorem dX2_leastOf_191 : decode cX2_leastOf 191 = .ok (.iaload, 1) := dk_46 (dk_at dksX2_leastOf_8 8 rfl rfl)
theorem dX2_leastOf_192 : decode cX2_leastOf 192 = .ok (.iload_n 1, 1) := dk_27 (dk_at dksX2_leastOf_8 9 rfl rfl)
theorem dX2_leastOf_193 : decode cX2_leastOf 193 = .ok (.ifCond .eq 12, 3) := dk_153 0 12 (dk_at dksX2_leastOf_8 10 rfl rfl)
theorem dX2_leastOf_196 : decode cX2_leastOf 196 = .ok (.aload_n 0, 1) := dk_42 (dk_at dksX2_leastOf_8 13 rfl rfl)
theorem dX2_leastOf_197 : decode cX2_leastOf 197 = .ok (.iload 5, 2) := dk_21 5 (dk_at dksX2_leastOf_8 14 rfl rfl)
theorem dX2_leastOf_199 : decode cX2_leastOf 199 = .ok (.invokevirtual 87, 3) := dk_182 0 87 (dk_at dksX2_leastOf_8 16 rfl rfl)
theorem dX2_leastOf_202 : decode cX2_leastOf 202 = .ok (.goto 4, 3) := dk_167 0 4 (dk_at dksX2_leastOf_8 19 rfl rfl)
theorem dX2_leastOf_205 : decode cX2_leastOf 205 = .ok (.iconst 0, 1) := dk_3 (dk_at dksX2_leastOf_8 22 rfl rfl)
theorem dX2_leastOf_206 : decode cX2_leastOf 206 = .ok (.iadd, 1) := dk_96 (dk_at dksX2_leastOf_8 23 rfl rfl)
theorem dX2_leastOf_207 : decode cX2_leastOf 207 = .ok (.istore 6, 2) := dk_54 6 (dk_at dksX2_leastOf_9 0 rfl rfl)
theorem dX2_leastOf_209 : decode cX2_leastOf 209 = .ok (.iload 4, 2) := dk_21 4 (dk_at dksX2_leastOf_9 2 rfl rfl)
theorem dX2_leastOf_211 : decode cX2_leastOf 211 = .ok (.iload 6, 2) := dk_21 6 (dk_at dksX2_leastOf_9 4 rfl rfl)
theorem dX2_leastOf_213 : decode cX2_leastOf 213 = .ok (.invokestatic 102, 3) := dk_184 0 102 (dk_at dksX2_leastOf_9 6 rfl rfl)
theorem dX2_leastOf_216 : decode cX2_leastOf 216 = .ok (.istore 4, 2) := dk_54 4 (dk_at dksX2_leastOf_9 9 rfl rfl)
theorem dX2_leastOf_218 : decode cX2_leastOf 218 = .ok (.iinc 5 1, 3) := dk_132 5 1 (dk_at dksX2_leastOf_9 11 rfl rfl)
theorem dX2_leastOf_221 : decode cX2_leastOf 221 = .ok (.goto (-57), 3) := dk_167 255 199 (dk_at dksX2_leastOf_9 14 rfl rfl)
theorem dX2_leastOf_224 : decode cX2_leastOf 224 = .ok (.iload 4, 2) := dk_21 4 (dk_at dksX2_leastOf_9 17 rfl rfl)
theorem dX2_leastOf_226 : decode cX2_leastOf 226 = .ok (.ldc 101, 2) := dk_18 101 (dk_at dksX2_leastOf_9 19 rfl rfl)
theorem dX2_leastOf_228 : decode cX2_leastOf 228 = .ok (.if_icmp .lt 8, 3) := dk_161 0 8 (dk_at dksX2_leastOf_9 21 rfl rfl)
theorem dX2_leastOf_231 : decode cX2_leastOf 231 = .ok (.bipush (-15), 2) := dk_16 241 (dk_at dksX2_leastOf_10 0 rfl rfl)
theorem dX2_leastOf_233 : decode cX2_leastOf 233 = .ok (.goto 5, 3) := dk_167 0 5 (dk_at dksX2_leastOf_10 2 rfl rfl)
theorem dX2_leastOf_236 : decode cX2_leastOf 236 = .ok (.iload 4, 2) := dk_21 4 (dk_at dksX2_leastOf_10 5 rfl rfl)
theorem dX2_leastOf_238 : decode cX2_leastOf 238 = .ok (.ireturn, 1) := dk_172 (dk_at dksX2_leastOf_10 7 rfl rfl)
theorem q78 : (Jvm.Cond.initialized "ChantRules$Machine") ∈ lw_all := lw_g (lw_at lw_m1 3 rfl) rfl
theorem q139 : (Jvm.Cond.instanceMethod ({ cls := "ChantRules$Machine", name := "<init>", desc := "()V" } : Jvm.MethodName)) ∈ lw_all := lw_g (lw_at lw_m1 64 rfl) rfl
theorem q140 : (Jvm.Cond.code ({ cls := "ChantRules$Machine", name := "<init>", desc := "()V" } : Jvm.MethodName) prog_9_method_1_code (1 : Nat) (Option.none : Option Jvm.ClassFile.FieldType)) ∈ lw_all := lw_g (lw_at lw_m1 65 rfl) rfl
theorem q141 : (Jvm.Cond.methodLink "ChantRules$Machine" (3 : Nat) ({ cls := "java/lang/Object", name := "<init>", desc := "()V" } : Jvm.MethodName)) ∈ lw_all := lw_g (lw_at lw_m1 66 rfl) rfl
theorem q665 : (Jvm.Cond.fieldLinkNest "ChantRules$Machine" (79 : Nat) "ChantRules$Heard" "letter" "I" "ChantRules") ∈ lw_tbl := lw_at lw_m3 110 rfl
theorem q856 : (Jvm.Cond.declares ({ cls := "ChantRules$Machine", name := "reached", desc := "()[Z" } : Jvm.MethodName)) ∈ lw_tbl := lw_at lw_m4 61 rfl
theorem q858 : (Jvm.Cond.instanceMethod ({ cls := "ChantRules$Machine", name := "reached", desc := "()[Z" } : Jvm.MethodName)) ∈ lw_all := lw_g (lw_at lw_m4 63 rfl) rfl
theorem q859 : (Jvm.Cond.code ({ cls := "ChantRules$Machine", name := "reached", desc := "()[Z" } : Jvm.MethodName) prog_9_method_9_code (1 : Nat) (Option.some (Jvm.ClassFile.FieldType.array Jvm.ClassFile.FieldType.boolean))) ∈ lw_all := lw_g (lw_at lw_m4 64 rfl) rfl
theorem q860 : (Jvm.Cond.methodLink "ChantRules$Machine" (91 : Nat) ({ cls := "ChantRules$Machine", name := "from", desc := "(IZ)[Z" } : Jvm.MethodName)) ∈ lw_all := lw_g (lw_at lw_m4 65 rfl) rfl
theorem q861 : (Jvm.Cond.instanceMethod ({ cls := "ChantRules$Machine", name := "from", desc := "(IZ)[Z" } : Jvm.MethodName)) ∈ lw_all := lw_g (lw_at lw_m4 66 rfl) rfl
theorem q862 : (Jvm.Cond.sameMethod "ChantRules$Machine" "ChantRules$Machine" "from" "(IZ)[Z") ∈ lw_all := lw_g (lw_at lw_m4 67 rfl) rfl
theorem q865 : (Jvm.Cond.code ({ cls := "ChantRules$Machine", name := "from", desc := "(IZ)[Z" } : Jvm.MethodName) prog_9_method_8_code (8 : Nat) (Option.some (Jvm.ClassFile.FieldType.array Jvm.ClassFile.FieldType.boolean))) ∈ lw_all := lw_g (lw_at lw_m4 70 rfl) rfl
theorem q866 : (Jvm.Cond.methodLink "ChantRules$Machine" (62 : Nat) ({ cls := "ChantRules$Machine", name := "states", desc := "()I" } : Jvm.MethodName)) ∈ lw_all := lw_g (lw_at lw_m4 71 rfl) rfl
theorem q867 : (Jvm.Cond.declares ({ cls := "ChantRules$Machine", name := "states", desc := "()I" } : Jvm.MethodName)) ∈ lw_tbl := lw_at lw_m4 72 rfl
theorem q868 : (Jvm.Cond.sameMethod "ChantRules$Machine" "ChantRules$Machine" "states" "()I") ∈ lw_all := lw_g (lw_at lw_m4 73 rfl) rfl
theorem q875 : (Jvm.Cond.methodLink "ChantRules$Machine" (34 : Nat) ({ cls := "ChantRules$Machine", name := "arcs", desc := "()Ljava/util/ArrayList;" } : Jvm.MethodName)) ∈ lw_all := lw_g (lw_at lw_m4 80 rfl) rfl
theorem q876 : (Jvm.Cond.declares ({ cls := "ChantRules$Machine", name := "arcs", desc := "()Ljava/util/ArrayList;" } : Jvm.MethodName)) ∈ lw_tbl := lw_at lw_m4 81 rfl
theorem q877 : (Jvm.Cond.sameMethod "ChantRules$Machine" "ChantRules$Machine" "arcs" "()Ljava/util/ArrayList;") ∈ lw_all := lw_g (lw_at lw_m4 82 rfl) rfl
theorem q884 : (Jvm.Cond.methodLink "ChantRules$Machine" (40 : Nat) ({ cls := "java/util/ArrayList", name := "iterator", desc := "()Ljava/util/Iterator;" } : Jvm.MethodName)) ∈ lw_all := lw_g (lw_at lw_m4 89 rfl) rfl
theorem q885 : (Jvm.Cond.interfaceEntry "ChantRules$Machine" (46 : Nat)) ∈ lw_tbl := lw_at lw_m4 90 rfl
theorem q886 : (Jvm.Cond.methodLink "ChantRules$Machine" (46 : Nat) ({ cls := "java/util/Iterator", name := "hasNext", desc := "()Z" } : Jvm.MethodName)) ∈ lw_all := lw_g (lw_at lw_m4 91 rfl) rfl
theorem q887 : (Jvm.Cond.interfaceEntry "ChantRules$Machine" (52 : Nat)) ∈ lw_tbl := lw_at lw_m4 92 rfl
theorem q888 : (Jvm.Cond.methodLink "ChantRules$Machine" (52 : Nat) ({ cls := "java/util/Iterator", name := "next", desc := "()Ljava/lang/Object;" } : Jvm.MethodName)) ∈ lw_all := lw_g (lw_at lw_m4 93 rfl) rfl
theorem q889 : (Jvm.Cond.classLink "ChantRules$Machine" (10 : Nat) "ChantRules$Arc") ∈ lw_all := lw_g (lw_at lw_m4 94 rfl) rfl
theorem q890 : (Jvm.Cond.interfaceEntry "ChantRules$Machine" (9 : Nat)) ∈ lw_tbl := lw_at lw_m4 95 rfl
theorem q891 : (Jvm.Cond.methodLink "ChantRules$Machine" (9 : Nat) ({ cls := "ChantRules$Arc", name := "from", desc := "()I" } : Jvm.MethodName)) ∈ lw_all := lw_g (lw_at lw_m4 96 rfl) rfl
theorem q892 : (Jvm.Cond.interfaceEntry "ChantRules$Machine" (15 : Nat)) ∈ lw_tbl := lw_at lw_m4 97 rfl
theorem q893 : (Jvm.Cond.methodLink "ChantRules$Machine" (15 : Nat) ({ cls := "ChantRules$Arc", name := "to", desc := "()I" } : Jvm.MethodName)) ∈ lw_all := lw_g (lw_at lw_m4 98 rfl) rfl
theorem q894 : (Jvm.Cond.classLink "ChantRules$Machine" (56 : Nat) "ChantRules$Breathed") ∈ lw_all := lw_g (lw_at lw_m4 99 rfl) rfl
theorem q897 : (Jvm.Cond.declares ({ cls := "ChantRules$Machine", name := "useful", desc := "(I)I" } : Jvm.MethodName)) ∈ lw_tbl := lw_at lw_m4 102 rfl
theorem q899 : (Jvm.Cond.instanceMethod ({ cls := "ChantRules$Machine", name := "useful", desc := "(I)I" } : Jvm.MethodName)) ∈ lw_all := lw_g (lw_at lw_m4 104 rfl) rfl
theorem q900 : (Jvm.Cond.code ({ cls := "ChantRules$Machine", name := "useful", desc := "(I)I" } : Jvm.MethodName) prog_9_method_11_code (2 : Nat) (Option.some Jvm.ClassFile.FieldType.int)) ∈ lw_all := lw_g (lw_at lw_m4 105 rfl) rfl
theorem q901 : (Jvm.Cond.methodLink "ChantRules$Machine" (98 : Nat) ({ cls := "ChantRules$Machine", name := "useful", desc := "()[Z" } : Jvm.MethodName)) ∈ lw_all := lw_g (lw_at lw_m4 106 rfl) rfl
theorem q902 : (Jvm.Cond.instanceMethod ({ cls := "ChantRules$Machine", name := "useful", desc := "()[Z" } : Jvm.MethodName)) ∈ lw_all := lw_g (lw_at lw_m4 107 rfl) rfl
theorem q903 : (Jvm.Cond.sameMethod "ChantRules$Machine" "ChantRules$Machine" "useful" "()[Z") ∈ lw_all := lw_g (lw_at lw_m4 108 rfl) rfl
theorem q906 : (Jvm.Cond.code ({ cls := "ChantRules$Machine", name := "useful", desc := "()[Z" } : Jvm.MethodName) prog_9_method_10_code (6 : Nat) (Option.some (Jvm.ClassFile.FieldType.array Jvm.ClassFile.FieldType.boolean))) ∈ lw_all := lw_g (lw_at lw_m4 111 rfl) rfl
theorem q907 : (Jvm.Cond.methodLink "ChantRules$Machine" (87 : Nat) ({ cls := "ChantRules$Machine", name := "end", desc := "(I)I" } : Jvm.MethodName)) ∈ lw_all := lw_g (lw_at lw_m4 112 rfl) rfl
theorem q908 : (Jvm.Cond.declares ({ cls := "ChantRules$Machine", name := "end", desc := "(I)I" } : Jvm.MethodName)) ∈ lw_tbl := lw_at lw_m4 113 rfl
theorem q909 : (Jvm.Cond.sameMethod "ChantRules$Machine" "ChantRules$Machine" "end" "(I)I") ∈ lw_all := lw_g (lw_at lw_m4 114 rfl) rfl
theorem q918 : (Jvm.Cond.methodLink "ChantRules$Machine" (94 : Nat) ({ cls := "ChantRules$Machine", name := "reached", desc := "()[Z" } : Jvm.MethodName)) ∈ lw_all := lw_g (lw_at lw_m4 123 rfl) rfl
theorem q925 : (Jvm.Cond.declares ({ cls := "ChantRules$Machine", name := "from", desc := "(IZ)[Z" } : Jvm.MethodName)) ∈ lw_tbl := lw_at lw_m4 130 rfl
theorem q971 : (Jvm.Cond.declares ({ cls := "ChantRules$Machine", name := "reads", desc := "(Ljava/lang/CharSequence;)LChantRules$Way;" } : Jvm.MethodName)) ∈ lw_tbl := lw_at lw_m4 176 rfl
theorem q973 : (Jvm.Cond.instanceMethod ({ cls := "ChantRules$Machine", name := "reads", desc := "(Ljava/lang/CharSequence;)LChantRules$Way;" } : Jvm.MethodName)) ∈ lw_all := lw_g (lw_at lw_m4 178 rfl) rfl
theorem q974 : (Jvm.Cond.code ({ cls := "ChantRules$Machine", name := "reads", desc := "(Ljava/lang/CharSequence;)LChantRules$Way;" } : Jvm.MethodName) prog_9_method_7_code (9 : Nat) (Option.some (Jvm.ClassFile.FieldType.object "ChantRules$Way"))) ∈ lw_all := lw_g (lw_at lw_m4 179 rfl) rfl
theorem q975 : (Jvm.Cond.interfaceEntry "ChantRules$Machine" (65 : Nat)) ∈ lw_tbl := lw_at lw_m4 180 rfl
theorem q976 : (Jvm.Cond.methodLink "ChantRules$Machine" (65 : Nat) ({ cls := "java/lang/CharSequence", name := "length", desc := "()I" } : Jvm.MethodName)) ∈ lw_all := lw_g (lw_at lw_m4 181 rfl) rfl
theorem q994 : (Jvm.Cond.classLink "ChantRules$Machine" (25 : Nat) "ChantRules$Way") ∈ lw_all := lw_g (lw_at lw_m4 199 rfl) rfl
theorem q997 : (Jvm.Cond.methodLink "ChantRules$Machine" (70 : Nat) ({ cls := "ChantRules$Way", name := "<init>", desc := "(ILChantRules$Letter;)V" } : Jvm.MethodName)) ∈ lw_all := lw_g (lw_at lw_m4 202 rfl) rfl
theorem q1010 : (Jvm.Cond.methodLink "ChantRules$Machine" (73 : Nat) ({ cls := "ChantRules$Machine", name := "breathes", desc := "([LChantRules$Way;I)V" } : Jvm.MethodName)) ∈ lw_all := lw_g (lw_at lw_m4 215 rfl) rfl
theorem q1011 : (Jvm.Cond.privateMethod ({ cls := "ChantRules$Machine", name := "breathes", desc := "([LChantRules$Way;I)V" } : Jvm.MethodName)) ∈ lw_tbl := lw_at lw_m4 216 rfl
theorem q1012 : (Jvm.Cond.instanceMethod ({ cls := "ChantRules$Machine", name := "breathes", desc := "([LChantRules$Way;I)V" } : Jvm.MethodName)) ∈ lw_all := lw_g (lw_at lw_m4 217 rfl) rfl
theorem q1013 : (Jvm.Cond.code ({ cls := "ChantRules$Machine", name := "breathes", desc := "([LChantRules$Way;I)V" } : Jvm.MethodName) prog_9_method_6_code (6 : Nat) (Option.none : Option Jvm.ClassFile.FieldType)) ∈ lw_all := lw_g (lw_at lw_m4 218 rfl) rfl
theorem q1014 : (Jvm.Cond.methodLink "ChantRules$Machine" (58 : Nat) ({ cls := "ChantRules$Machine", name := "goesOver", desc := "(LChantRules$Arc;[LChantRules$Way;II)Z" } : Jvm.MethodName)) ∈ lw_all := lw_g (lw_at lw_m4 219 rfl) rfl
theorem q1015 : (Jvm.Cond.privateMethod ({ cls := "ChantRules$Machine", name := "goesOver", desc := "(LChantRules$Arc;[LChantRules$Way;II)Z" } : Jvm.MethodName)) ∈ lw_tbl := lw_at lw_m4 220 rfl
theorem q1016 : (Jvm.Cond.instanceMethod ({ cls := "ChantRules$Machine", name := "goesOver", desc := "(LChantRules$Arc;[LChantRules$Way;II)Z" } : Jvm.MethodName)) ∈ lw_all := lw_g (lw_at lw_m4 221 rfl) rfl
theorem q1017 : (Jvm.Cond.code ({ cls := "ChantRules$Machine", name := "goesOver", desc := "(LChantRules$Arc;[LChantRules$Way;II)Z" } : Jvm.MethodName) prog_9_method_5_code (8 : Nat) (Option.some Jvm.ClassFile.FieldType.boolean)) ∈ lw_all := lw_g (lw_at lw_m4 222 rfl) rfl
theorem q1018 : (Jvm.Cond.interfaceEntry "ChantRules$Machine" (18 : Nat)) ∈ lw_tbl := lw_at lw_m4 223 rfl
theorem q1019 : (Jvm.Cond.methodLink "ChantRules$Machine" (18 : Nat) ({ cls := "ChantRules$Arc", name := "weight", desc := "()I" } : Jvm.MethodName)) ∈ lw_all := lw_g (lw_at lw_m4 224 rfl) rfl
theorem q1020 : (Jvm.Cond.interfaceEntry "ChantRules$Machine" (21 : Nat)) ∈ lw_tbl := lw_at lw_m4 225 rfl
theorem q1021 : (Jvm.Cond.methodLink "ChantRules$Machine" (21 : Nat) ({ cls := "ChantRules$Arc", name := "sings", desc := "()I" } : Jvm.MethodName)) ∈ lw_all := lw_g (lw_at lw_m4 226 rfl) rfl
theorem q1022 : (Jvm.Cond.methodLink "ChantRules$Machine" (24 : Nat) ({ cls := "ChantRules$Way", name := "isLess", desc := "(IILChantRules$Way;)Z" } : Jvm.MethodName)) ∈ lw_all := lw_g (lw_at lw_m4 227 rfl) rfl
theorem q1035 : (Jvm.Cond.methodLink "ChantRules$Machine" (30 : Nat) ({ cls := "ChantRules$Way", name := "over", desc := "(II)LChantRules$Way;" } : Jvm.MethodName)) ∈ lw_all := lw_g (lw_at lw_m5 0 rfl) rfl
theorem q1058 : (Jvm.Cond.classLink "ChantRules$Machine" (77 : Nat) "ChantRules$Heard") ∈ lw_all := lw_g (lw_at lw_m5 23 rfl) rfl
theorem q1059 : (Jvm.Cond.interfaceEntry "ChantRules$Machine" (83 : Nat)) ∈ lw_tbl := lw_at lw_m5 24 rfl
theorem q1060 : (Jvm.Cond.methodLink "ChantRules$Machine" (83 : Nat) ({ cls := "java/lang/CharSequence", name := "charAt", desc := "(I)C" } : Jvm.MethodName)) ∈ lw_all := lw_g (lw_at lw_m5 25 rfl) rfl
theorem q1372 : (Jvm.Cond.declares ({ cls := "ChantRules$Machine", name := "usefulMany", desc := "()I" } : Jvm.MethodName)) ∈ lw_tbl := lw_at lw_m6 97 rfl
theorem q1374 : (Jvm.Cond.instanceMethod ({ cls := "ChantRules$Machine", name := "usefulMany", desc := "()I" } : Jvm.MethodName)) ∈ lw_all := lw_g (lw_at lw_m6 99 rfl) rfl
theorem q1375 : (Jvm.Cond.code ({ cls := "ChantRules$Machine", name := "usefulMany", desc := "()I" } : Jvm.MethodName) prog_9_method_12_code (6 : Nat) (Option.some Jvm.ClassFile.FieldType.int)) ∈ lw_all := lw_g (lw_at lw_m6 100 rfl) rfl
theorem q1382 : (Jvm.Cond.declares ({ cls := "ChantRules$Machine", name := "leastOf", desc := "(Z)I" } : Jvm.MethodName)) ∈ lw_tbl := lw_at lw_m6 107 rfl
theorem q1384 : (Jvm.Cond.instanceMethod ({ cls := "ChantRules$Machine", name := "leastOf", desc := "(Z)I" } : Jvm.MethodName)) ∈ lw_all := lw_g (lw_at lw_m6 109 rfl) rfl
theorem q1385 : (Jvm.Cond.code ({ cls := "ChantRules$Machine", name := "leastOf", desc := "(Z)I" } : Jvm.MethodName) prog_9_method_13_code (7 : Nat) (Option.some Jvm.ClassFile.FieldType.int)) ∈ lw_all := lw_g (lw_at lw_m6 110 rfl) rfl
theorem q1386 : (Jvm.Cond.constant "ChantRules$Machine" (101 : Nat) (1000000 : Int32)) ∈ lw_all := lw_g (lw_at lw_m6 111 rfl) rfl
theorem q1387 : (Jvm.Cond.methodLink "ChantRules$Machine" (102 : Nat) ({ cls := "java/lang/Math", name := "min", desc := "(II)I" } : Jvm.MethodName)) ∈ lw_all := lw_g (lw_at lw_m6 112 rfl) rfl
theorem q1402 : (Jvm.Cond.declares ({ cls := "ChantRules$Machine", name := "useful", desc := "()[Z" } : Jvm.MethodName)) ∈ lw_tbl := lw_at lw_m6 127 rfl
theorem q2339 : (Jvm.Cond.sameMethod "ChantRules$Machine" "ChantRules$Machine" "reached" "()[Z") ∈ lw_all := lw_g (lw_at lw_m10 104 rfl) rfl
theorem q2344 : (Jvm.Cond.sameMethod "ChantRules$Machine" "ChantRules$Machine" "breathes" "([LChantRules$Way;I)V") ∈ lw_all := lw_g (lw_at lw_m10 109 rfl) rfl
theorem q2345 : (Jvm.Cond.sameMethod "ChantRules$Machine" "ChantRules$Machine" "goesOver" "(LChantRules$Arc;[LChantRules$Way;II)Z") ∈ lw_all := lw_g (lw_at lw_m10 110 rfl) rfl
/-! ChantRules$Rule -/
set_option maxRecDepth 100000
def RX3 : String := "ChantRules$Rule"
def TX3 : u_T := fun k => match k with
  | 0 => ("ChantRules$Rule", "arcs", "Ljava/util/ArrayList;", true)
  | 1 => ("ChantRules$Rule", "ends", "[I", true)
  | _ => ("ChantRules$Rule", "states", "I", false)
def tyX3 : Nat → FieldType := fun k => match k with
  | 0 => .object "java/util/ArrayList"
  | 1 => .array .int
  | _ => .int
abbrev wsX30 : List Cond := u_ws RX3 TX3 3
theorem nmX3 : ∀ a, a < 3 → ∀ b, b < 3 → a ≠ b → (TX3 a).2.1 ≠ (TX3 b).2.1 := by decide +kernel
theorem tyX3_ok : ∀ k, k < 3 → parseFieldDescriptor (TX3 k).2.2.1 = some (tyX3 k) := by decide +kernel
abbrev cX3_init : ByteArray := prog_12_method_1_code
def yX3_init : MethodName := ⟨RX3, "<init>", "()V"⟩
def dkwX3_init_2 : List UInt8 := [167, 255, 241, 177]
abbrev dktX3_init_2 : List UInt8 := dkwX3_init_2 ++ []
def dkwX3_init_1 : List UInt8 := [42, 4, 181, 0, 24, 3, 60, 27, 8, 162, 0, 16, 42, 180, 0, 20, 27, 2, 79, 132, 1, 1]
abbrev dktX3_init_1 : List UInt8 := dkwX3_init_1 ++ dktX3_init_2
def dkwX3_init_0 : List UInt8 := [42, 183, 0, 3, 42, 187, 0, 9, 89, 16, 12, 183, 0, 11, 181, 0, 14, 42, 8, 188, 10, 181, 0, 20]
abbrev dktX3_init_0 : List UInt8 := dkwX3_init_0 ++ dktX3_init_1
theorem dksX3_init_0 : cX3_init.data.toList.drop 0 = dktX3_init_0 := by decide +kernel
theorem dksX3_init_1 : cX3_init.data.toList.drop 24 = dktX3_init_1 := dk_seg dksX3_init_0 24 rfl rfl
theorem dksX3_init_2 : cX3_init.data.toList.drop 46 = dktX3_init_2 := dk_seg dksX3_init_1 22 rfl rfl
theorem dX3_init_0 : decode cX3_init 0 = .ok (.aload_n 0, 1) := dk_42 (dk_at dksX3_init_0 0 rfl rfl)
theorem dX3_init_1 : decode cX3_init 1 = .ok (.invokespecial 3, 3) := dk_183 0 3 (dk_at dksX3_init_0 1 rfl rfl)
theorem dX3_init_4 : decode cX3_init 4 = .ok (.aload_n 0, 1) := dk_42 (dk_at dksX3_init_0 4 rfl rfl)
theorem dX3_init_5 : decode cX3_init 5 = .ok (.new 9, 3) := dk_187 0 9 (dk_at dksX3_init_0 5 rfl rfl)
theorem dX3_init_8 : decode cX3_init 8 = .ok (.dup, 1) := dk_89 (dk_at dksX3_init_0 8 rfl rfl)
theorem dX3_init_9 : decode cX3_init 9 = .ok (.bipush 12, 2) := dk_16 12 (dk_at dksX3_init_0 9 rfl rfl)
theorem dX3_init_11 : decode cX3_init 11 = .ok (.invokespecial 11, 3) := dk_183 0 11 (dk_at dksX3_init_0 11 rfl rfl)
theorem dX3_init_14 : decode cX3_init 14 = .ok (.putfield 14, 3) := dk_181 0 14 (dk_at dksX3_init_0 14 rfl rfl)
theorem dX3_init_17 : decode cX3_init 17 = .ok (.aload_n 0, 1) := dk_42 (dk_at dksX3_init_0 17 rfl rfl)
theorem dX3_init_18 : decode cX3_init 18 = .ok (.iconst 5, 1) := dk_8 (dk_at dksX3_init_0 18 rfl rfl)
theorem dX3_init_19 : decode cX3_init 19 = .ok (.newarray .int, 2) := dk_188_10 (dk_at dksX3_init_0 19 rfl rfl)
theorem dX3_init_21 : decode cX3_init 21 = .ok (.putfield 20, 3) := dk_181 0 20 (dk_at dksX3_init_0 21 rfl rfl)
theorem dX3_init_24 : decode cX3_init 24 = .ok (.aload_n 0, 1) := dk_42 (dk_at dksX3_init_1 0 rfl rfl)
theorem dX3_init_25 : decode cX3_init 25 = .ok (.iconst 1, 1) := dk_4 (dk_at dksX3_init_1 1 rfl rfl)
theorem dX3_init_26 : decode cX3_init 26 = .ok (.putfield 24, 3) := dk_181 0 24 (dk_at dksX3_init_1 2 rfl rfl)
theorem dX3_init_29 : decode cX3_init 29 = .ok (.iconst 0, 1) := dk_3 (dk_at dksX3_init_1 5 rfl rfl)
theorem dX3_init_30 : decode cX3_init 30 = .ok (.istore_n 1, 1) := dk_60 (dk_at dksX3_init_1 6 rfl rfl)
theorem dX3_init_31 : decode cX3_init 31 = .ok (.iload_n 1, 1) := dk_27 (dk_at dksX3_init_1 7 rfl rfl)
theorem dX3_init_32 : decode cX3_init 32 = .ok (.iconst 5, 1) := dk_8 (dk_at dksX3_init_1 8 rfl rfl)
theorem dX3_init_33 : decode cX3_init 33 = .ok (.if_icmp .ge 16, 3) := dk_162 0 16 (dk_at dksX3_init_1 9 rfl rfl)
theorem dX3_init_36 : decode cX3_init 36 = .ok (.aload_n 0, 1) := dk_42 (dk_at dksX3_init_1 12 rfl rfl)
theorem dX3_init_37 : decode cX3_init 37 = .ok (.getfield 20, 3) := dk_180 0 20 (dk_at dksX3_init_1 13 rfl rfl)
theorem dX3_init_40 : decode cX3_init 40 = .ok (.iload_n 1, 1) := dk_27 (dk_at dksX3_init_1 16 rfl rfl)
theorem dX3_init_41 : decode cX3_init 41 = .ok (.iconst (-1), 1) := dk_2 (dk_at dksX3_init_1 17 rfl rfl)
theorem dX3_init_42 : decode cX3_init 42 = .ok (.iastore, 1) := dk_79 (dk_at dksX3_init_1 18 rfl rfl)
theorem dX3_init_43 : decode cX3_init 43 = .ok (.iinc 1 1, 3) := dk_132 1 1 (dk_at dksX3_init_1 19 rfl rfl)
theorem dX3_init_46 : decode cX3_init 46 = .ok (.goto (-15), 3) := dk_167 255 241 (dk_at dksX3_init_2 0 rfl rfl)
theorem dX3_init_49 : decode cX3_init 49 = .ok (.return_, 1) := dk_177 (dk_at dksX3_init_2 3 rfl rfl)
abbrev cX3_copy : ByteArray := prog_12_method_2_code
def yX3_copy : MethodName := ⟨RX3, "copy", "()LChantRules$Rule;"⟩
def dkwX3_copy_3 : List UInt8 := [132, 2, 1, 167, 255, 236, 43, 42, 180, 0, 24, 181, 0, 24, 43, 176]
abbrev dktX3_copy_3 : List UInt8 := dkwX3_copy_3 ++ []
def dkwX3_copy_2 : List UInt8 := [167, 255, 228, 3, 61, 28, 8, 162, 0, 21, 43, 180, 0, 20, 28, 42, 180, 0, 20, 28, 46, 79]
abbrev dktX3_copy_2 : List UInt8 := dkwX3_copy_2 ++ dktX3_copy_3
def dkwX3_copy_1 : List UInt8 := [153, 0, 25, 44, 185, 0, 39, 1, 0, 192, 0, 43, 78, 43, 180, 0, 14, 45, 182, 0, 45, 87]
abbrev dktX3_copy_1 : List UInt8 := dkwX3_copy_1 ++ dktX3_copy_2
def dkwX3_copy_0 : List UInt8 := [187, 0, 15, 89, 183, 0, 28, 76, 42, 180, 0, 14, 182, 0, 29, 77, 44, 185, 0, 33, 1, 0]
abbrev dktX3_copy_0 : List UInt8 := dkwX3_copy_0 ++ dktX3_copy_1
theorem dksX3_copy_0 : cX3_copy.data.toList.drop 0 = dktX3_copy_0 := by decide +kernel
theorem dksX3_copy_1 : cX3_copy.data.toList.drop 22 = dktX3_copy_1 := dk_seg dksX3_copy_0 22 rfl rfl
theorem dksX3_copy_2 : cX3_copy.data.toList.drop 44 = dktX3_copy_2 := dk_seg dksX3_copy_1 22 rfl rfl
theorem dksX3_copy_3 : cX3_copy.data.toList.drop 66 = dktX3_copy_3 := dk_seg dksX3_copy_2 22 rfl rfl
theorem dX3_copy_0 : decode cX3_copy 0 = .ok (.new 15, 3) := dk_187 0 15 (dk_at dksX3_copy_0 0 rfl rfl)
theorem dX3_copy_3 : decode cX3_copy 3 = .ok (.dup, 1) := dk_89 (dk_at dksX3_copy_0 3 rfl rfl)
theorem dX3_copy_4 : decode cX3_copy 4 = .ok (.invokespecial 28, 3) := dk_183 0 28 (dk_at dksX3_copy_0 4 rfl rfl)
theorem dX3_copy_7 : decode cX3_copy 7 = .ok (.astore_n 1, 1) := dk_76 (dk_at dksX3_copy_0 7 rfl rfl)
theorem dX3_copy_8 : decode cX3_copy 8 = .ok (.aload_n 0, 1) := dk_42 (dk_at dksX3_copy_0 8 rfl rfl)
theorem dX3_copy_9 : decode cX3_copy 9 = .ok (.getfield 14, 3) := dk_180 0 14 (dk_at dksX3_copy_0 9 rfl rfl)
theorem dX3_copy_12 : decode cX3_copy 12 = .ok (.invokevirtual 29, 3) := dk_182 0 29 (dk_at dksX3_copy_0 12 rfl rfl)
theorem dX3_copy_15 : decode cX3_copy 15 = .ok (.astore_n 2, 1) := dk_77 (dk_at dksX3_copy_0 15 rfl rfl)
theorem dX3_copy_16 : decode cX3_copy 16 = .ok (.aload_n 2, 1) := dk_44 (dk_at dksX3_copy_0 16 rfl rfl)
theorem dX3_copy_17 : decode cX3_copy 17 = .ok (.invokeinterface 33 1, 5) := by decide +kernel
theorem dX3_copy_22 : decode cX3_copy 22 = .ok (.ifCond .eq 25, 3) := dk_153 0 25 (dk_at dksX3_copy_1 0 rfl rfl)
theorem dX3_copy_25 : decode cX3_copy 25 = .ok (.aload_n 2, 1) := dk_44 (dk_at dksX3_copy_1 3 rfl rfl)
theorem dX3_copy_26 : decode cX3_copy 26 = .ok (.invokeinterface 39 1, 5) := by decide +kernel
theorem dX3_copy_31 : decode cX3_copy 31 = .ok (.checkcast 43, 3) := dk_192 0 43 (dk_at dksX3_copy_1 9 rfl rfl)
theorem dX3_copy_34 : decode cX3_copy 34 = .ok (.astore_n 3, 1) := dk_78 (dk_at dksX3_copy_1 12 rfl rfl)
theorem dX3_copy_35 : decode cX3_copy 35 = .ok (.aload_n 1, 1) := dk_43 (dk_at dksX3_copy_1 13 rfl rfl)
theorem dX3_copy_36 : decode cX3_copy 36 = .ok (.getfield 14, 3) := dk_180 0 14 (dk_at dksX3_copy_1 14 rfl rfl)
theorem dX3_copy_39 : decode cX3_copy 39 = .ok (.aload_n 3, 1) := dk_45 (dk_at dksX3_copy_1 17 rfl rfl)
theorem dX3_copy_40 : decode cX3_copy 40 = .ok (.invokevirtual 45, 3) := dk_182 0 45 (dk_at dksX3_copy_1 18 rfl rfl)
theorem dX3_copy_43 : decode cX3_copy 43 = .ok (.pop, 1) := dk_87 (dk_at dksX3_copy_1 21 rfl rfl)
theorem dX3_copy_44 : decode cX3_copy 44 = .ok (.goto (-28), 3) := dk_167 255 228 (dk_at dksX3_copy_2 0 rfl rfl)
theorem dX3_copy_47 : decode cX3_copy 47 = .ok (.iconst 0, 1) := dk_3 (dk_at dksX3_copy_2 3 rfl rfl)
theorem dX3_copy_48 : decode cX3_copy 48 = .ok (.istore_n 2, 1) := dk_61 (dk_at dksX3_copy_2 4 rfl rfl)
theorem dX3_copy_49 : decode cX3_copy 49 = .ok (.iload_n 2, 1) := dk_28 (dk_at dksX3_copy_2 5 rfl rfl)
theorem dX3_copy_50 : decode cX3_copy 50 = .ok (.iconst 5, 1) := dk_8 (dk_at dksX3_copy_2 6 rfl rfl)
theorem dX3_copy_51 : decode cX3_copy 51 = .ok (.if_icmp .ge 21, 3) := dk_162 0 21 (dk_at dksX3_copy_2 7 rfl rfl)
theorem dX3_copy_54 : decode cX3_copy 54 = .ok (.aload_n 1, 1) := dk_43 (dk_at dksX3_copy_2 10 rfl rfl)
theorem dX3_copy_55 : decode cX3_copy 55 = .ok (.getfield 20, 3) := dk_180 0 20 (dk_at dksX3_copy_2 11 rfl rfl)
theorem dX3_copy_58 : decode cX3_copy 58 = .ok (.iload_n 2, 1) := dk_28 (dk_at dksX3_copy_2 14 rfl rfl)
theorem dX3_copy_59 : decode cX3_copy 59 = .ok (.aload_n 0, 1) := dk_42 (dk_at dksX3_copy_2 15 rfl rfl)
theorem dX3_copy_60 : decode cX3_copy 60 = .ok (.getfield 20, 3) := dk_180 0 20 (dk_at dksX3_copy_2 16 rfl rfl)
theorem dX3_copy_63 : decode cX3_copy 63 = .ok (.iload_n 2, 1) := dk_28 (dk_at dksX3_copy_2 19 rfl rfl)
theorem dX3_copy_64 : decode cX3_copy 64 = .ok (.iaload, 1) := dk_46 (dk_at dksX3_copy_2 20 rfl rfl)
theorem dX3_copy_65 : decode cX3_copy 65 = .ok (.iastore, 1) := dk_79 (dk_at dksX3_copy_2 21 rfl rfl)
theorem dX3_copy_66 : decode cX3_copy 66 = .ok (.iinc 2 1, 3) := dk_132 2 1 (dk_at dksX3_copy_3 0 rfl rfl)
theorem dX3_copy_69 : decode cX3_copy 69 = .ok (.goto (-20), 3) := dk_167 255 236 (dk_at dksX3_copy_3 3 rfl rfl)
theorem dX3_copy_72 : decode cX3_copy 72 = .ok (.aload_n 1, 1) := dk_43 (dk_at dksX3_copy_3 6 rfl rfl)
theorem dX3_copy_73 : decode cX3_copy 73 = .ok (.aload_n 0, 1) := dk_42 (dk_at dksX3_copy_3 7 rfl rfl)
theorem dX3_copy_74 : decode cX3_copy 74 = .ok (.getfield 24, 3) := dk_180 0 24 (dk_at dksX3_copy_3 8 rfl rfl)
theorem dX3_copy_77 : decode cX3_copy 77 = .ok (.putfield 24, 3) := dk_181 0 24 (dk_at dksX3_copy_3 11 rfl rfl)
theorem dX3_copy_80 : decode cX3_copy 80 = .ok (.aload_n 1, 1) := dk_43 (dk_at dksX3_copy_3 14 rfl rfl)
theorem dX3_copy_81 : decode cX3_copy 81 = .ok (.areturn, 1) := dk_176 (dk_at dksX3_copy_3 15 rfl rfl)
abbrev cX3_tells : ByteArray := prog_12_method_9_code
def yX3_tells : MethodName := ⟨RX3, "tells", "()I"⟩
def dkwX3_tells_1 : List UInt8 := [96, 181, 0, 24, 42, 180, 0, 24, 4, 100, 172]
abbrev dktX3_tells_1 : List UInt8 := dkwX3_tells_1 ++ []
def dkwX3_tells_0 : List UInt8 := [42, 180, 0, 24, 8, 160, 0, 7, 4, 167, 0, 4, 3, 4, 8, 184, 0, 57, 42, 89, 180, 0, 24, 4]
abbrev dktX3_tells_0 : List UInt8 := dkwX3_tells_0 ++ dktX3_tells_1
theorem dksX3_tells_0 : cX3_tells.data.toList.drop 0 = dktX3_tells_0 := by decide +kernel
theorem dksX3_tells_1 : cX3_tells.data.toList.drop 24 = dktX3_tells_1 := dk_seg dksX3_tells_0 24 rfl rfl
theorem dX3_tells_0 : decode cX3_tells 0 = .ok (.aload_n 0, 1) := dk_42 (dk_at dksX3_tells_0 0 rfl rfl)
theorem dX3_tells_1 : decode cX3_tells 1 = .ok (.getfield 24, 3) := dk_180 0 24 (dk_at dksX3_tells_0 1 rfl rfl)
theorem dX3_tells_4 : decode cX3_tells 4 = .ok (.iconst 5, 1) := dk_8 (dk_at dksX3_tells_0 4 rfl rfl)
theorem dX3_tells_5 : decode cX3_tells 5 = .ok (.if_icmp .ne 7, 3) := dk_160 0 7 (dk_at dksX3_tells_0 5 rfl rfl)
theorem dX3_tells_8 : decode cX3_tells 8 = .ok (.iconst 1, 1) := dk_4 (dk_at dksX3_tells_0 8 rfl rfl)
theorem dX3_tells_9 : decode cX3_tells 9 = .ok (.goto 4, 3) := dk_167 0 4 (dk_at dksX3_tells_0 9 rfl rfl)
theorem dX3_tells_12 : decode cX3_tells 12 = .ok (.iconst 0, 1) := dk_3 (dk_at dksX3_tells_0 12 rfl rfl)
theorem dX3_tells_13 : decode cX3_tells 13 = .ok (.iconst 1, 1) := dk_4 (dk_at dksX3_tells_0 13 rfl rfl)
theorem dX3_tells_14 : decode cX3_tells 14 = .ok (.iconst 5, 1) := dk_8 (dk_at dksX3_tells_0 14 rfl rfl)
theorem dX3_tells_15 : decode cX3_tells 15 = .ok (.invokestatic 57, 3) := dk_184 0 57 (dk_at dksX3_tells_0 15 rfl rfl)
theorem dX3_tells_18 : decode cX3_tells 18 = .ok (.aload_n 0, 1) := dk_42 (dk_at dksX3_tells_0 18 rfl rfl)
theorem dX3_tells_19 : decode cX3_tells 19 = .ok (.dup, 1) := dk_89 (dk_at dksX3_tells_0 19 rfl rfl)
theorem dX3_tells_20 : decode cX3_tells 20 = .ok (.getfield 24, 3) := dk_180 0 24 (dk_at dksX3_tells_0 20 rfl rfl)
theorem dX3_tells_23 : decode cX3_tells 23 = .ok (.iconst 1, 1) := dk_4 (dk_at dksX3_tells_0 23 rfl rfl)
theorem dX3_tells_24 : decode cX3_tells 24 = .ok (.iadd, 1) := dk_96 (dk_at dksX3_tells_1 0 rfl rfl)
theorem dX3_tells_25 : decode cX3_tells 25 = .ok (.putfield 24, 3) := dk_181 0 24 (dk_at dksX3_tells_1 1 rfl rfl)
theorem dX3_tells_28 : decode cX3_tells 28 = .ok (.aload_n 0, 1) := dk_42 (dk_at dksX3_tells_1 4 rfl rfl)
theorem dX3_tells_29 : decode cX3_tells 29 = .ok (.getfield 24, 3) := dk_180 0 24 (dk_at dksX3_tells_1 5 rfl rfl)
theorem dX3_tells_32 : decode cX3_tells 32 = .ok (.iconst 1, 1) := dk_4 (dk_at dksX3_tells_1 8 rfl rfl)
theorem dX3_tells_33 : decode cX3_tells 33 = .ok (.isub, 1) := dk_100 (dk_at dksX3_tells_1 9 rfl rfl)
theorem dX3_tells_34 : decode cX3_tells 34 = .ok (.ireturn, 1) := dk_172 (dk_at dksX3_tells_1 10 rfl rfl)
abbrev cX3_isState : ByteArray := prog_12_method_6_code
def yX3_isState : MethodName := ⟨RX3, "isState", "(I)Z"⟩
def dkwX3_isState_0 : List UInt8 := [27, 3, 42, 180, 0, 24, 4, 100, 184, 0, 49, 172]
abbrev dktX3_isState_0 : List UInt8 := dkwX3_isState_0 ++ []
theorem dksX3_isState_0 : cX3_isState.data.toList.drop 0 = dktX3_isState_0 := by decide +kernel
theorem dX3_isState_0 : decode cX3_isState 0 = .ok (.iload_n 1, 1) := dk_27 (dk_at dksX3_isState_0 0 rfl rfl)
theorem dX3_isState_1 : decode cX3_isState 1 = .ok (.iconst 0, 1) := dk_3 (dk_at dksX3_isState_0 1 rfl rfl)
theorem dX3_isState_2 : decode cX3_isState 2 = .ok (.aload_n 0, 1) := dk_42 (dk_at dksX3_isState_0 2 rfl rfl)
theorem dX3_isState_3 : decode cX3_isState 3 = .ok (.getfield 24, 3) := dk_180 0 24 (dk_at dksX3_isState_0 3 rfl rfl)
theorem dX3_isState_6 : decode cX3_isState 6 = .ok (.iconst 1, 1) := dk_4 (dk_at dksX3_isState_0 6 rfl rfl)
theorem dX3_isState_7 : decode cX3_isState 7 = .ok (.isub, 1) := dk_100 (dk_at dksX3_isState_0 7 rfl rfl)
theorem dX3_isState_8 : decode cX3_isState 8 = .ok (.invokestatic 49, 3) := dk_184 0 49 (dk_at dksX3_isState_0 8 rfl rfl)
theorem dX3_isState_11 : decode cX3_isState 11 = .ok (.ireturn, 1) := dk_172 (dk_at dksX3_isState_0 11 rfl rfl)
abbrev cX3_ends : ByteArray := prog_12_method_10_code
def yX3_ends : MethodName := ⟨RX3, "ends", "(II)I"⟩
def dkwX3_ends_1 : List UInt8 := [27, 28, 79, 42, 182, 0, 61, 172]
abbrev dktX3_ends_1 : List UInt8 := dkwX3_ends_1 ++ []
def dkwX3_ends_0 : List UInt8 := [42, 180, 0, 20, 27, 46, 28, 160, 0, 7, 4, 167, 0, 4, 3, 6, 27, 184, 0, 57, 42, 180, 0, 20]
abbrev dktX3_ends_0 : List UInt8 := dkwX3_ends_0 ++ dktX3_ends_1
theorem dksX3_ends_0 : cX3_ends.data.toList.drop 0 = dktX3_ends_0 := by decide +kernel
theorem dksX3_ends_1 : cX3_ends.data.toList.drop 24 = dktX3_ends_1 := dk_seg dksX3_ends_0 24 rfl rfl
theorem dX3_ends_0 : decode cX3_ends 0 = .ok (.aload_n 0, 1) := dk_42 (dk_at dksX3_ends_0 0 rfl rfl)
theorem dX3_ends_1 : decode cX3_ends 1 = .ok (.getfield 20, 3) := dk_180 0 20 (dk_at dksX3_ends_0 1 rfl rfl)
theorem dX3_ends_4 : decode cX3_ends 4 = .ok (.iload_n 1, 1) := dk_27 (dk_at dksX3_ends_0 4 rfl rfl)
theorem dX3_ends_5 : decode cX3_ends 5 = .ok (.iaload, 1) := dk_46 (dk_at dksX3_ends_0 5 rfl rfl)
theorem dX3_ends_6 : decode cX3_ends 6 = .ok (.iload_n 2, 1) := dk_28 (dk_at dksX3_ends_0 6 rfl rfl)
theorem dX3_ends_7 : decode cX3_ends 7 = .ok (.if_icmp .ne 7, 3) := dk_160 0 7 (dk_at dksX3_ends_0 7 rfl rfl)
theorem dX3_ends_10 : decode cX3_ends 10 = .ok (.iconst 1, 1) := dk_4 (dk_at dksX3_ends_0 10 rfl rfl)
theorem dX3_ends_11 : decode cX3_ends 11 = .ok (.goto 4, 3) := dk_167 0 4 (dk_at dksX3_ends_0 11 rfl rfl)
theorem dX3_ends_14 : decode cX3_ends 14 = .ok (.iconst 0, 1) := dk_3 (dk_at dksX3_ends_0 14 rfl rfl)
theorem dX3_ends_15 : decode cX3_ends 15 = .ok (.iconst 3, 1) := dk_6 (dk_at dksX3_ends_0 15 rfl rfl)
theorem dX3_ends_16 : decode cX3_ends 16 = .ok (.iload_n 1, 1) := dk_27 (dk_at dksX3_ends_0 16 rfl rfl)
theorem dX3_ends_17 : decode cX3_ends 17 = .ok (.invokestatic 57, 3) := dk_184 0 57 (dk_at dksX3_ends_0 17 rfl rfl)
theorem dX3_ends_20 : decode cX3_ends 20 = .ok (.aload_n 0, 1) := dk_42 (dk_at dksX3_ends_0 20 rfl rfl)
theorem dX3_ends_21 : decode cX3_ends 21 = .ok (.getfield 20, 3) := dk_180 0 20 (dk_at dksX3_ends_0 21 rfl rfl)
theorem dX3_ends_24 : decode cX3_ends 24 = .ok (.iload_n 1, 1) := dk_27 (dk_at dksX3_ends_1 0 rfl rfl)
theorem dX3_ends_25 : decode cX3_ends 25 = .ok (.iload_n 2, 1) := dk_28 (dk_at dksX3_ends_1 1 rfl rfl)
theorem dX3_ends_26 : decode cX3_ends 26 = .ok (.iastore, 1) := dk_79 (dk_at dksX3_ends_1 2 rfl rfl)
theorem dX3_ends_27 : decode cX3_ends 27 = .ok (.aload_n 0, 1) := dk_42 (dk_at dksX3_ends_1 3 rfl rfl)
theorem dX3_ends_28 : decode cX3_ends 28 = .ok (.invokevirtual 61, 3) := dk_182 0 61 (dk_at dksX3_ends_1 4 rfl rfl)
theorem dX3_ends_31 : decode cX3_ends 31 = .ok (.ireturn, 1) := dk_172 (dk_at dksX3_ends_1 7 rfl rfl)
abbrev cX3_endMany : ByteArray := prog_12_method_8_code
def yX3_endMany : MethodName := ⟨RX3, "endMany", "()I"⟩
def dkwX3_endMany_1 : List UInt8 := [167, 0, 4, 4, 96, 60, 132, 2, 1, 167, 255, 227, 27, 172]
abbrev dktX3_endMany_1 : List UInt8 := dkwX3_endMany_1 ++ []
def dkwX3_endMany_0 : List UInt8 := [3, 60, 3, 61, 28, 42, 180, 0, 24, 162, 0, 27, 27, 42, 180, 0, 20, 28, 46, 2, 160, 0, 7, 3]
abbrev dktX3_endMany_0 : List UInt8 := dkwX3_endMany_0 ++ dktX3_endMany_1
theorem dksX3_endMany_0 : cX3_endMany.data.toList.drop 0 = dktX3_endMany_0 := by decide +kernel
theorem dksX3_endMany_1 : cX3_endMany.data.toList.drop 24 = dktX3_endMany_1 := dk_seg dksX3_endMany_0 24 rfl rfl
theorem dX3_endMany_0 : decode cX3_endMany 0 = .ok (.iconst 0, 1) := dk_3 (dk_at dksX3_endMany_0 0 rfl rfl)
theorem dX3_endMany_1 : decode cX3_endMany 1 = .ok (.istore_n 1, 1) := dk_60 (dk_at dksX3_endMany_0 1 rfl rfl)
theorem dX3_endMany_2 : decode cX3_endMany 2 = .ok (.iconst 0, 1) := dk_3 (dk_at dksX3_endMany_0 2 rfl rfl)
theorem dX3_endMany_3 : decode cX3_endMany 3 = .ok (.istore_n 2, 1) := dk_61 (dk_at dksX3_endMany_0 3 rfl rfl)
theorem dX3_endMany_4 : decode cX3_endMany 4 = .ok (.iload_n 2, 1) := dk_28 (dk_at dksX3_endMany_0 4 rfl rfl)
theorem dX3_endMany_5 : decode cX3_endMany 5 = .ok (.aload_n 0, 1) := dk_42 (dk_at dksX3_endMany_0 5 rfl rfl)
theorem dX3_endMany_6 : decode cX3_endMany 6 = .ok (.getfield 24, 3) := dk_180 0 24 (dk_at dksX3_endMany_0 6 rfl rfl)
theorem dX3_endMany_9 : decode cX3_endMany 9 = .ok (.if_icmp .ge 27, 3) := dk_162 0 27 (dk_at dksX3_endMany_0 9 rfl rfl)
theorem dX3_endMany_12 : decode cX3_endMany 12 = .ok (.iload_n 1, 1) := dk_27 (dk_at dksX3_endMany_0 12 rfl rfl)
theorem dX3_endMany_13 : decode cX3_endMany 13 = .ok (.aload_n 0, 1) := dk_42 (dk_at dksX3_endMany_0 13 rfl rfl)
theorem dX3_endMany_14 : decode cX3_endMany 14 = .ok (.getfield 20, 3) := dk_180 0 20 (dk_at dksX3_endMany_0 14 rfl rfl)
theorem dX3_endMany_17 : decode cX3_endMany 17 = .ok (.iload_n 2, 1) := dk_28 (dk_at dksX3_endMany_0 17 rfl rfl)
theorem dX3_endMany_18 : decode cX3_endMany 18 = .ok (.iaload, 1) := dk_46 (dk_at dksX3_endMany_0 18 rfl rfl)
theorem dX3_endMany_19 : decode cX3_endMany 19 = .ok (.iconst (-1), 1) := dk_2 (dk_at dksX3_endMany_0 19 rfl rfl)
theorem dX3_endMany_20 : decode cX3_endMany 20 = .ok (.if_icmp .ne 7, 3) := dk_160 0 7 (dk_at dksX3_endMany_0 20 rfl rfl)
theorem dX3_endMany_23 : decode cX3_endMany 23 = .ok (.iconst 0, 1) := dk_3 (dk_at dksX3_endMany_0 23 rfl rfl)
theorem dX3_endMany_24 : decode cX3_endMany 24 = .ok (.goto 4, 3) := dk_167 0 4 (dk_at dksX3_endMany_1 0 rfl rfl)
theorem dX3_endMany_27 : decode cX3_endMany 27 = .ok (.iconst 1, 1) := dk_4 (dk_at dksX3_endMany_1 3 rfl rfl)
theorem dX3_endMany_28 : decode cX3_endMany 28 = .ok (.iadd, 1) := dk_96 (dk_at dksX3_endMany_1 4 rfl rfl)
theorem dX3_endMany_29 : decode cX3_endMany 29 = .ok (.istore_n 1, 1) := dk_60 (dk_at dksX3_endMany_1 5 rfl rfl)
theorem dX3_endMany_30 : decode cX3_endMany 30 = .ok (.iinc 2 1, 3) := dk_132 2 1 (dk_at dksX3_endMany_1 6 rfl rfl)
theorem dX3_endMany_33 : decode cX3_endMany 33 = .ok (.goto (-29), 3) := dk_167 255 227 (dk_at dksX3_endMany_1 9 rfl rfl)
theorem dX3_endMany_36 : decode cX3_endMany 36 = .ok (.iload_n 1, 1) := dk_27 (dk_at dksX3_endMany_1 12 rfl rfl)
theorem dX3_endMany_37 : decode cX3_endMany 37 = .ok (.ireturn, 1) := dk_172 (dk_at dksX3_endMany_1 13 rfl rfl)
abbrev cX3_tells_2 : ByteArray := prog_12_method_11_code
def yX3_tells_2 : MethodName := ⟨RX3, "tells", "(LChantRules$Arc;)I"⟩
def dkwX3_tells_2_3 : List UInt8 := [180, 0, 14, 182, 0, 53, 4, 100, 172]
abbrev dktX3_tells_2_3 : List UInt8 := dkwX3_tells_2_3 ++ []
def dkwX3_tells_2_2 : List UInt8 := [160, 0, 7, 4, 167, 0, 4, 3, 4, 16, 12, 184, 0, 57, 42, 180, 0, 14, 43, 182, 0, 45, 87, 42]
abbrev dktX3_tells_2_2 : List UInt8 := dkwX3_tells_2_2 ++ dktX3_tells_2_3
def dkwX3_tells_2_1 : List UInt8 := [43, 184, 0, 68, 5, 28, 184, 0, 57, 132, 2, 1, 167, 255, 222, 42, 180, 0, 14, 182, 0, 53, 16, 12]
abbrev dktX3_tells_2_1 : List UInt8 := dkwX3_tells_2_1 ++ dktX3_tells_2_2
def dkwX3_tells_2_0 : List UInt8 := [3, 61, 28, 42, 180, 0, 14, 182, 0, 53, 162, 0, 29, 42, 180, 0, 14, 28, 182, 0, 64, 192, 0, 43]
abbrev dktX3_tells_2_0 : List UInt8 := dkwX3_tells_2_0 ++ dktX3_tells_2_1
theorem dksX3_tells_2_0 : cX3_tells_2.data.toList.drop 0 = dktX3_tells_2_0 := by decide +kernel
theorem dksX3_tells_2_1 : cX3_tells_2.data.toList.drop 24 = dktX3_tells_2_1 := dk_seg dksX3_tells_2_0 24 rfl rfl
theorem dksX3_tells_2_2 : cX3_tells_2.data.toList.drop 48 = dktX3_tells_2_2 := dk_seg dksX3_tells_2_1 24 rfl rfl
theorem dksX3_tells_2_3 : cX3_tells_2.data.toList.drop 72 = dktX3_tells_2_3 := dk_seg dksX3_tells_2_2 24 rfl rfl
theorem dX3_tells_2_0 : decode cX3_tells_2 0 = .ok (.iconst 0, 1) := dk_3 (dk_at dksX3_tells_2_0 0 rfl rfl)
theorem dX3_tells_2_1 : decode cX3_tells_2 1 = .ok (.istore_n 2, 1) := dk_61 (dk_at dksX3_tells_2_0 1 rfl rfl)
theorem dX3_tells_2_2 : decode cX3_tells_2 2 = .ok (.iload_n 2, 1) := dk_28 (dk_at dksX3_tells_2_0 2 rfl rfl)
theorem dX3_tells_2_3 : decode cX3_tells_2 3 = .ok (.aload_n 0, 1) := dk_42 (dk_at dksX3_tells_2_0 3 rfl rfl)
theorem dX3_tells_2_4 : decode cX3_tells_2 4 = .ok (.getfield 14, 3) := dk_180 0 14 (dk_at dksX3_tells_2_0 4 rfl rfl)
theorem dX3_tells_2_7 : decode cX3_tells_2 7 = .ok (.invokevirtual 53, 3) := dk_182 0 53 (dk_at dksX3_tells_2_0 7 rfl rfl)
theorem dX3_tells_2_10 : decode cX3_tells_2 10 = .ok (.if_icmp .ge 29, 3) := dk_162 0 29 (dk_at dksX3_tells_2_0 10 rfl rfl)
theorem dX3_tells_2_13 : decode cX3_tells_2 13 = .ok (.aload_n 0, 1) := dk_42 (dk_at dksX3_tells_2_0 13 rfl rfl)
theorem dX3_tells_2_14 : decode cX3_tells_2 14 = .ok (.getfield 14, 3) := dk_180 0 14 (dk_at dksX3_tells_2_0 14 rfl rfl)
theorem dX3_tells_2_17 : decode cX3_tells_2 17 = .ok (.iload_n 2, 1) := dk_28 (dk_at dksX3_tells_2_0 17 rfl rfl)
theorem dX3_tells_2_18 : decode cX3_tells_2 18 = .ok (.invokevirtual 64, 3) := dk_182 0 64 (dk_at dksX3_tells_2_0 18 rfl rfl)
theorem dX3_tells_2_21 : decode cX3_tells_2 21 = .ok (.checkcast 43, 3) := dk_192 0 43 (dk_at dksX3_tells_2_0 21 rfl rfl)
theorem dX3_tells_2_24 : decode cX3_tells_2 24 = .ok (.aload_n 1, 1) := dk_43 (dk_at dksX3_tells_2_1 0 rfl rfl)
theorem dX3_tells_2_25 : decode cX3_tells_2 25 = .ok (.invokestatic 68, 3) := dk_184 0 68 (dk_at dksX3_tells_2_1 1 rfl rfl)
theorem dX3_tells_2_28 : decode cX3_tells_2 28 = .ok (.iconst 2, 1) := dk_5 (dk_at dksX3_tells_2_1 4 rfl rfl)
theorem dX3_tells_2_29 : decode cX3_tells_2 29 = .ok (.iload_n 2, 1) := dk_28 (dk_at dksX3_tells_2_1 5 rfl rfl)
theorem dX3_tells_2_30 : decode cX3_tells_2 30 = .ok (.invokestatic 57, 3) := dk_184 0 57 (dk_at dksX3_tells_2_1 6 rfl rfl)
theorem dX3_tells_2_33 : decode cX3_tells_2 33 = .ok (.iinc 2 1, 3) := dk_132 2 1 (dk_at dksX3_tells_2_1 9 rfl rfl)
theorem dX3_tells_2_36 : decode cX3_tells_2 36 = .ok (.goto (-34), 3) := dk_167 255 222 (dk_at dksX3_tells_2_1 12 rfl rfl)
theorem dX3_tells_2_39 : decode cX3_tells_2 39 = .ok (.aload_n 0, 1) := dk_42 (dk_at dksX3_tells_2_1 15 rfl rfl)
theorem dX3_tells_2_40 : decode cX3_tells_2 40 = .ok (.getfield 14, 3) := dk_180 0 14 (dk_at dksX3_tells_2_1 16 rfl rfl)
theorem dX3_tells_2_43 : decode cX3_tells_2 43 = .ok (.invokevirtual 53, 3) := dk_182 0 53 (dk_at dksX3_tells_2_1 19 rfl rfl)
theorem dX3_tells_2_46 : decode cX3_tells_2 46 = .ok (.bipush 12, 2) := dk_16 12 (dk_at dksX3_tells_2_1 22 rfl rfl)
theorem dX3_tells_2_48 : decode cX3_tells_2 48 = .ok (.if_icmp .ne 7, 3) := dk_160 0 7 (dk_at dksX3_tells_2_2 0 rfl rfl)
theorem dX3_tells_2_51 : decode cX3_tells_2 51 = .ok (.iconst 1, 1) := dk_4 (dk_at dksX3_tells_2_2 3 rfl rfl)
theorem dX3_tells_2_52 : decode cX3_tells_2 52 = .ok (.goto 4, 3) := dk_167 0 4 (dk_at dksX3_tells_2_2 4 rfl rfl)
theorem dX3_tells_2_55 : decode cX3_tells_2 55 = .ok (.iconst 0, 1) := dk_3 (dk_at dksX3_tells_2_2 7 rfl rfl)
theorem dX3_tells_2_56 : decode cX3_tells_2 56 = .ok (.iconst 1, 1) := dk_4 (dk_at dksX3_tells_2_2 8 rfl rfl)
theorem dX3_tells_2_57 : decode cX3_tells_2 57 = .ok (.bipush 12, 2) := dk_16 12 (dk_at dksX3_tells_2_2 9 rfl rfl)
theorem dX3_tells_2_59 : decode cX3_tells_2 59 = .ok (.invokestatic 57, 3) := dk_184 0 57 (dk_at dksX3_tells_2_2 11 rfl rfl)
theorem dX3_tells_2_62 : decode cX3_tells_2 62 = .ok (.aload_n 0, 1) := dk_42 (dk_at dksX3_tells_2_2 14 rfl rfl)
theorem dX3_tells_2_63 : decode cX3_tells_2 63 = .ok (.getfield 14, 3) := dk_180 0 14 (dk_at dksX3_tells_2_2 15 rfl rfl)
theorem dX3_tells_2_66 : decode cX3_tells_2 66 = .ok (.aload_n 1, 1) := dk_43 (dk_at dksX3_tells_2_2 18 rfl rfl)
theorem dX3_tells_2_67 : decode cX3_tells_2 67 = .ok (.invokevirtual 45, 3) := dk_182 0 45 (dk_at dksX3_tells_2_2 19 rfl rfl)
theorem dX3_tells_2_70 : decode cX3_tells_2 70 = .ok (.pop, 1) := dk_87 (dk_at dksX3_tells_2_2 22 rfl rfl)
theorem dX3_tells_2_71 : decode cX3_tells_2 71 = .ok (.aload_n 0, 1) := dk_42 (dk_at dksX3_tells_2_2 23 rfl rfl)
theorem dX3_tells_2_72 : decode cX3_tells_2 72 = .ok (.getfield 14, 3) := dk_180 0 14 (dk_at dksX3_tells_2_3 0 rfl rfl)
theorem dX3_tells_2_75 : decode cX3_tells_2 75 = .ok (.invokevirtual 53, 3) := dk_182 0 53 (dk_at dksX3_tells_2_3 3 rfl rfl)
theorem dX3_tells_2_78 : decode cX3_tells_2 78 = .ok (.iconst 1, 1) := dk_4 (dk_at dksX3_tells_2_3 6 rfl rfl)
theorem dX3_tells_2_79 : decode cX3_tells_2 79 = .ok (.isub, 1) := dk_100 (dk_at dksX3_tells_2_3 7 rfl rfl)
theorem dX3_tells_2_80 : decode cX3_tells_2 80 = .ok (.ireturn, 1) := dk_172 (dk_at dksX3_tells_2_3 8 rfl rfl)
abbrev cX3_isArc : ByteArray := prog_12_method_7_code
def yX3_isArc : MethodName := ⟨RX3, "isArc", "(I)Z"⟩
def dkwX3_isArc_0 : List UInt8 := [27, 3, 42, 180, 0, 14, 182, 0, 53, 4, 100, 184, 0, 49, 172]
abbrev dktX3_isArc_0 : List UInt8 := dkwX3_isArc_0 ++ []
theorem dksX3_isArc_0 : cX3_isArc.data.toList.drop 0 = dktX3_isArc_0 := by decide +kernel
theorem dX3_isArc_0 : decode cX3_isArc 0 = .ok (.iload_n 1, 1) := dk_27 (dk_at dksX3_isArc_0 0 rfl rfl)
theorem dX3_isArc_1 : decode cX3_isArc 1 = .ok (.iconst 0, 1) := dk_3 (dk_at dksX3_isArc_0 1 rfl rfl)
theorem dX3_isArc_2 : decode cX3_isArc 2 = .ok (.aload_n 0, 1) := dk_42 (dk_at dksX3_isArc_0 2 rfl rfl)
theorem dX3_isArc_3 : decode cX3_isArc 3 = .ok (.getfield 14, 3) := dk_180 0 14 (dk_at dksX3_isArc_0 3 rfl rfl)
theorem dX3_isArc_6 : decode cX3_isArc 6 = .ok (.invokevirtual 53, 3) := dk_182 0 53 (dk_at dksX3_isArc_0 6 rfl rfl)
theorem dX3_isArc_9 : decode cX3_isArc 9 = .ok (.iconst 1, 1) := dk_4 (dk_at dksX3_isArc_0 9 rfl rfl)
theorem dX3_isArc_10 : decode cX3_isArc 10 = .ok (.isub, 1) := dk_100 (dk_at dksX3_isArc_0 10 rfl rfl)
theorem dX3_isArc_11 : decode cX3_isArc 11 = .ok (.invokestatic 49, 3) := dk_184 0 49 (dk_at dksX3_isArc_0 11 rfl rfl)
theorem dX3_isArc_14 : decode cX3_isArc 14 = .ok (.ireturn, 1) := dk_172 (dk_at dksX3_isArc_0 14 rfl rfl)
abbrev cX3_weighs : ByteArray := prog_12_method_12_code
def yX3_weighs : MethodName := ⟨RX3, "weighs", "(II)I"⟩
def dkwX3_weighs_2 : List UInt8 := [192, 0, 43, 58, 4, 25, 4, 185, 0, 72, 1, 0, 172]
abbrev dktX3_weighs_2 : List UInt8 := dkwX3_weighs_2 ++ []
def dkwX3_weighs_1 : List UInt8 := [167, 0, 4, 3, 6, 27, 184, 0, 57, 42, 180, 0, 14, 27, 45, 28, 184, 0, 75, 182, 0, 79]
abbrev dktX3_weighs_1 : List UInt8 := dkwX3_weighs_1 ++ dktX3_weighs_2
def dkwX3_weighs_0 : List UInt8 := [42, 180, 0, 14, 27, 182, 0, 64, 192, 0, 43, 78, 45, 185, 0, 72, 1, 0, 28, 160, 0, 7, 4]
abbrev dktX3_weighs_0 : List UInt8 := dkwX3_weighs_0 ++ dktX3_weighs_1
theorem dksX3_weighs_0 : cX3_weighs.data.toList.drop 0 = dktX3_weighs_0 := by decide +kernel
theorem dksX3_weighs_1 : cX3_weighs.data.toList.drop 23 = dktX3_weighs_1 := dk_seg dksX3_weighs_0 23 rfl rfl
theorem dksX3_weighs_2 : cX3_weighs.data.toList.drop 45 = dktX3_weighs_2 := dk_seg dksX3_weighs_1 22 rfl rfl
theorem dX3_weighs_0 : decode cX3_weighs 0 = .ok (.aload_n 0, 1) := dk_42 (dk_at dksX3_weighs_0 0 rfl rfl)
theorem dX3_weighs_1 : decode cX3_weighs 1 = .ok (.getfield 14, 3) := dk_180 0 14 (dk_at dksX3_weighs_0 1 rfl rfl)
theorem dX3_weighs_4 : decode cX3_weighs 4 = .ok (.iload_n 1, 1) := dk_27 (dk_at dksX3_weighs_0 4 rfl rfl)
theorem dX3_weighs_5 : decode cX3_weighs 5 = .ok (.invokevirtual 64, 3) := dk_182 0 64 (dk_at dksX3_weighs_0 5 rfl rfl)
theorem dX3_weighs_8 : decode cX3_weighs 8 = .ok (.checkcast 43, 3) := dk_192 0 43 (dk_at dksX3_weighs_0 8 rfl rfl)
theorem dX3_weighs_11 : decode cX3_weighs 11 = .ok (.astore_n 3, 1) := dk_78 (dk_at dksX3_weighs_0 11 rfl rfl)
theorem dX3_weighs_12 : decode cX3_weighs 12 = .ok (.aload_n 3, 1) := dk_45 (dk_at dksX3_weighs_0 12 rfl rfl)
theorem dX3_weighs_13 : decode cX3_weighs 13 = .ok (.invokeinterface 72 1, 5) := by decide +kernel
theorem dX3_weighs_18 : decode cX3_weighs 18 = .ok (.iload_n 2, 1) := dk_28 (dk_at dksX3_weighs_0 18 rfl rfl)
theorem dX3_weighs_19 : decode cX3_weighs 19 = .ok (.if_icmp .ne 7, 3) := dk_160 0 7 (dk_at dksX3_weighs_0 19 rfl rfl)
theorem dX3_weighs_22 : decode cX3_weighs 22 = .ok (.iconst 1, 1) := dk_4 (dk_at dksX3_weighs_0 22 rfl rfl)
theorem dX3_weighs_23 : decode cX3_weighs 23 = .ok (.goto 4, 3) := dk_167 0 4 (dk_at dksX3_weighs_1 0 rfl rfl)
theorem dX3_weighs_26 : decode cX3_weighs 26 = .ok (.iconst 0, 1) := dk_3 (dk_at dksX3_weighs_1 3 rfl rfl)
theorem dX3_weighs_27 : decode cX3_weighs 27 = .ok (.iconst 3, 1) := dk_6 (dk_at dksX3_weighs_1 4 rfl rfl)
theorem dX3_weighs_28 : decode cX3_weighs 28 = .ok (.iload_n 1, 1) := dk_27 (dk_at dksX3_weighs_1 5 rfl rfl)
theorem dX3_weighs_29 : decode cX3_weighs 29 = .ok (.invokestatic 57, 3) := dk_184 0 57 (dk_at dksX3_weighs_1 6 rfl rfl)
theorem dX3_weighs_32 : decode cX3_weighs 32 = .ok (.aload_n 0, 1) := dk_42 (dk_at dksX3_weighs_1 9 rfl rfl)
theorem dX3_weighs_33 : decode cX3_weighs 33 = .ok (.getfield 14, 3) := dk_180 0 14 (dk_at dksX3_weighs_1 10 rfl rfl)
theorem dX3_weighs_36 : decode cX3_weighs 36 = .ok (.iload_n 1, 1) := dk_27 (dk_at dksX3_weighs_1 13 rfl rfl)
theorem dX3_weighs_37 : decode cX3_weighs 37 = .ok (.aload_n 3, 1) := dk_45 (dk_at dksX3_weighs_1 14 rfl rfl)
theorem dX3_weighs_38 : decode cX3_weighs 38 = .ok (.iload_n 2, 1) := dk_28 (dk_at dksX3_weighs_1 15 rfl rfl)
theorem dX3_weighs_39 : decode cX3_weighs 39 = .ok (.invokestatic 75, 3) := dk_184 0 75 (dk_at dksX3_weighs_1 16 rfl rfl)
theorem dX3_weighs_42 : decode cX3_weighs 42 = .ok (.invokevirtual 79, 3) := dk_182 0 79 (dk_at dksX3_weighs_1 19 rfl rfl)
theorem dX3_weighs_45 : decode cX3_weighs 45 = .ok (.checkcast 43, 3) := dk_192 0 43 (dk_at dksX3_weighs_2 0 rfl rfl)
theorem dX3_weighs_48 : decode cX3_weighs 48 = .ok (.astore 4, 2) := dk_58 4 (dk_at dksX3_weighs_2 3 rfl rfl)
theorem dX3_weighs_50 : decode cX3_weighs 50 = .ok (.aload 4, 2) := dk_25 4 (dk_at dksX3_weighs_2 5 rfl rfl)
theorem dX3_weighs_52 : decode cX3_weighs 52 = .ok (.invokeinterface 72 1, 5) := by decide +kernel
theorem dX3_weighs_57 : decode cX3_weighs 57 = .ok (.ireturn, 1) := dk_172 (dk_at dksX3_weighs_2 12 rfl rfl)
abbrev cX3_drops : ByteArray := prog_12_method_13_code
def yX3_drops : MethodName := ⟨RX3, "drops", "(I)I"⟩
def dkwX3_drops_3 : List UInt8 := [182, 0, 53, 172]
abbrev dktX3_drops_3 : List UInt8 := dkwX3_drops_3 ++ []
def dkwX3_drops_2 : List UInt8 := [180, 0, 14, 42, 180, 0, 14, 182, 0, 53, 4, 100, 182, 0, 83, 192, 0, 43, 77, 42, 180, 0, 14]
abbrev dktX3_drops_2 : List UInt8 := dkwX3_drops_2 ++ dktX3_drops_3
def dkwX3_drops_1 : List UInt8 := [28, 4, 96, 182, 0, 64, 192, 0, 43, 182, 0, 79, 192, 0, 43, 78, 132, 2, 1, 167, 255, 215, 42]
abbrev dktX3_drops_1 : List UInt8 := dkwX3_drops_1 ++ dktX3_drops_2
def dkwX3_drops_0 : List UInt8 := [27, 61, 28, 4, 96, 42, 180, 0, 14, 182, 0, 53, 162, 0, 34, 42, 180, 0, 14, 28, 42, 180, 0, 14]
abbrev dktX3_drops_0 : List UInt8 := dkwX3_drops_0 ++ dktX3_drops_1
theorem dksX3_drops_0 : cX3_drops.data.toList.drop 0 = dktX3_drops_0 := by decide +kernel
theorem dksX3_drops_1 : cX3_drops.data.toList.drop 24 = dktX3_drops_1 := dk_seg dksX3_drops_0 24 rfl rfl
theorem dksX3_drops_2 : cX3_drops.data.toList.drop 47 = dktX3_drops_2 := dk_seg dksX3_drops_1 23 rfl rfl
theorem dksX3_drops_3 : cX3_drops.data.toList.drop 70 = dktX3_drops_3 := dk_seg dksX3_drops_2 23 rfl rfl
theorem dX3_drops_0 : decode cX3_drops 0 = .ok (.iload_n 1, 1) := dk_27 (dk_at dksX3_drops_0 0 rfl rfl)
theorem dX3_drops_1 : decode cX3_drops 1 = .ok (.istore_n 2, 1) := dk_61 (dk_at dksX3_drops_0 1 rfl rfl)
theorem dX3_drops_2 : decode cX3_drops 2 = .ok (.iload_n 2, 1) := dk_28 (dk_at dksX3_drops_0 2 rfl rfl)
theorem dX3_drops_3 : decode cX3_drops 3 = .ok (.iconst 1, 1) := dk_4 (dk_at dksX3_drops_0 3 rfl rfl)
theorem dX3_drops_4 : decode cX3_drops 4 = .ok (.iadd, 1) := dk_96 (dk_at dksX3_drops_0 4 rfl rfl)
theorem dX3_drops_5 : decode cX3_drops 5 = .ok (.aload_n 0, 1) := dk_42 (dk_at dksX3_drops_0 5 rfl rfl)
theorem dX3_drops_6 : decode cX3_drops 6 = .ok (.getfield 14, 3) := dk_180 0 14 (dk_at dksX3_drops_0 6 rfl rfl)
theorem dX3_drops_9 : decode cX3_drops 9 = .ok (.invokevirtual 53, 3) := dk_182 0 53 (dk_at dksX3_drops_0 9 rfl rfl)
theorem dX3_drops_12 : decode cX3_drops 12 = .ok (.if_icmp .ge 34, 3) := dk_162 0 34 (dk_at dksX3_drops_0 12 rfl rfl)
theorem dX3_drops_15 : decode cX3_drops 15 = .ok (.aload_n 0, 1) := dk_42 (dk_at dksX3_drops_0 15 rfl rfl)
theorem dX3_drops_16 : decode cX3_drops 16 = .ok (.getfield 14, 3) := dk_180 0 14 (dk_at dksX3_drops_0 16 rfl rfl)
theorem dX3_drops_19 : decode cX3_drops 19 = .ok (.iload_n 2, 1) := dk_28 (dk_at dksX3_drops_0 19 rfl rfl)
theorem dX3_drops_20 : decode cX3_drops 20 = .ok (.aload_n 0, 1) := dk_42 (dk_at dksX3_drops_0 20 rfl rfl)
theorem dX3_drops_21 : decode cX3_drops 21 = .ok (.getfield 14, 3) := dk_180 0 14 (dk_at dksX3_drops_0 21 rfl rfl)
theorem dX3_drops_24 : decode cX3_drops 24 = .ok (.iload_n 2, 1) := dk_28 (dk_at dksX3_drops_1 0 rfl rfl)
theorem dX3_drops_25 : decode cX3_drops 25 = .ok (.iconst 1, 1) := dk_4 (dk_at dksX3_drops_1 1 rfl rfl)
theorem dX3_drops_26 : decode cX3_drops 26 = .ok (.iadd, 1) := dk_96 (dk_at dksX3_drops_1 2 rfl rfl)
theorem dX3_drops_27 : decode cX3_drops 27 = .ok (.invokevirtual 64, 3) := dk_182 0 64 (dk_at dksX3_drops_1 3 rfl rfl)
theorem dX3_drops_30 : decode cX3_drops 30 = .ok (.checkcast 43, 3) := dk_192 0 43 (dk_at dksX3_drops_1 6 rfl rfl)
theorem dX3_drops_33 : decode cX3_drops 33 = .ok (.invokevirtual 79, 3) := dk_182 0 79 (dk_at dksX3_drops_1 9 rfl rfl)
theorem dX3_drops_36 : decode cX3_drops 36 = .ok (.checkcast 43, 3) := dk_192 0 43 (dk_at dksX3_drops_1 12 rfl rfl)
theorem dX3_drops_39 : decode cX3_drops 39 = .ok (.astore_n 3, 1) := dk_78 (dk_at dksX3_drops_1 15 rfl rfl)
theorem dX3_drops_40 : decode cX3_drops 40 = .ok (.iinc 2 1, 3) := dk_132 2 1 (dk_at dksX3_drops_1 16 rfl rfl)
theorem dX3_drops_43 : decode cX3_drops 43 = .ok (.goto (-41), 3) := dk_167 255 215 (dk_at dksX3_drops_1 19 rfl rfl)
theorem dX3_drops_46 : decode cX3_drops 46 = .ok (.aload_n 0, 1) := dk_42 (dk_at dksX3_drops_1 22 rfl rfl)
theorem dX3_drops_47 : decode cX3_drops 47 = .ok (.getfield 14, 3) := dk_180 0 14 (dk_at dksX3_drops_2 0 rfl rfl)
theorem dX3_drops_50 : decode cX3_drops 50 = .ok (.aload_n 0, 1) := dk_42 (dk_at dksX3_drops_2 3 rfl rfl)
theorem dX3_drops_51 : decode cX3_drops 51 = .ok (.getfield 14, 3) := dk_180 0 14 (dk_at dksX3_drops_2 4 rfl rfl)
theorem dX3_drops_54 : decode cX3_drops 54 = .ok (.invokevirtual 53, 3) := dk_182 0 53 (dk_at dksX3_drops_2 7 rfl rfl)
theorem dX3_drops_57 : decode cX3_drops 57 = .ok (.iconst 1, 1) := dk_4 (dk_at dksX3_drops_2 10 rfl rfl)
theorem dX3_drops_58 : decode cX3_drops 58 = .ok (.isub, 1) := dk_100 (dk_at dksX3_drops_2 11 rfl rfl)
theorem dX3_drops_59 : decode cX3_drops 59 = .ok (.invokevirtual 83, 3) := dk_182 0 83 (dk_at dksX3_drops_2 12 rfl rfl)
theorem dX3_drops_62 : decode cX3_drops 62 = .ok (.checkcast 43, 3) := dk_192 0 43 (dk_at dksX3_drops_2 15 rfl rfl)
theorem dX3_drops_65 : decode cX3_drops 65 = .ok (.astore_n 2, 1) := dk_77 (dk_at dksX3_drops_2 18 rfl rfl)
theorem dX3_drops_66 : decode cX3_drops 66 = .ok (.aload_n 0, 1) := dk_42 (dk_at dksX3_drops_2 19 rfl rfl)
theorem dX3_drops_67 : decode cX3_drops 67 = .ok (.getfield 14, 3) := dk_180 0 14 (dk_at dksX3_drops_2 20 rfl rfl)
theorem dX3_drops_70 : decode cX3_drops 70 = .ok (.invokevirtual 53, 3) := dk_182 0 53 (dk_at dksX3_drops_3 0 rfl rfl)
theorem dX3_drops_73 : decode cX3_drops 73 = .ok (.ireturn, 1) := dk_172 (dk_at dksX3_drops_3 3 rfl rfl)
abbrev cX3_turns : ByteArray := prog_12_method_14_code
def yX3_turns : MethodName := ⟨RX3, "turns", "()I"⟩
def dkwX3_turns_5 : List UInt8 := [78, 132, 2, 1, 167, 255, 216, 27, 172]
abbrev dktX3_turns_5 : List UInt8 := dkwX3_turns_5 ++ []
def dkwX3_turns_4 : List UInt8 := [180, 0, 14, 28, 42, 180, 0, 14, 28, 182, 0, 64, 192, 0, 43, 184, 0, 92, 182, 0, 79, 192, 0, 43]
abbrev dktX3_turns_4 : List UInt8 := dkwX3_turns_4 ++ dktX3_turns_5
def dkwX3_turns_3 : List UInt8 := [180, 0, 14, 182, 0, 53, 184, 0, 57, 3, 61, 28, 42, 180, 0, 14, 182, 0, 53, 162, 0, 35, 42]
abbrev dktX3_turns_3 : List UInt8 := dkwX3_turns_3 ++ dktX3_turns_4
def dkwX3_turns_2 : List UInt8 := [160, 0, 7, 3, 167, 0, 4, 4, 96, 60, 167, 255, 214, 27, 154, 0, 7, 4, 167, 0, 4, 3, 7, 42]
abbrev dktX3_turns_2 : List UInt8 := dkwX3_turns_2 ++ dktX3_turns_3
def dkwX3_turns_1 : List UInt8 := [185, 0, 39, 1, 0, 192, 0, 43, 78, 27, 45, 185, 0, 86, 1, 0, 45, 185, 0, 89, 1, 0]
abbrev dktX3_turns_1 : List UInt8 := dkwX3_turns_1 ++ dktX3_turns_2
def dkwX3_turns_0 : List UInt8 := [3, 60, 42, 180, 0, 14, 182, 0, 29, 77, 44, 185, 0, 33, 1, 0, 153, 0, 39, 44]
abbrev dktX3_turns_0 : List UInt8 := dkwX3_turns_0 ++ dktX3_turns_1
theorem dksX3_turns_0 : cX3_turns.data.toList.drop 0 = dktX3_turns_0 := by decide +kernel
theorem dksX3_turns_1 : cX3_turns.data.toList.drop 20 = dktX3_turns_1 := dk_seg dksX3_turns_0 20 rfl rfl
theorem dksX3_turns_2 : cX3_turns.data.toList.drop 42 = dktX3_turns_2 := dk_seg dksX3_turns_1 22 rfl rfl
theorem dksX3_turns_3 : cX3_turns.data.toList.drop 66 = dktX3_turns_3 := dk_seg dksX3_turns_2 24 rfl rfl
theorem dksX3_turns_4 : cX3_turns.data.toList.drop 89 = dktX3_turns_4 := dk_seg dksX3_turns_3 23 rfl rfl
theorem dksX3_turns_5 : cX3_turns.data.toList.drop 113 = dktX3_turns_5 := dk_seg dksX3_turns_4 24 rfl rfl
theorem dX3_turns_0 : decode cX3_turns 0 = .ok (.iconst 0, 1) := dk_3 (dk_at dksX3_turns_0 0 rfl rfl)
theorem dX3_turns_1 : decode cX3_turns 1 = .ok (.istore_n 1, 1) := dk_60 (dk_at dksX3_turns_0 1 rfl rfl)
theorem dX3_turns_2 : decode cX3_turns 2 = .ok (.aload_n 0, 1) := dk_42 (dk_at dksX3_turns_0 2 rfl rfl)
theorem dX3_turns_3 : decode cX3_turns 3 = .ok (.getfield 14, 3) := dk_180 0 14 (dk_at dksX3_turns_0 3 rfl rfl)
theorem dX3_turns_6 : decode cX3_turns 6 = .ok (.invokevirtual 29, 3) := dk_182 0 29 (dk_at dksX3_turns_0 6 rfl rfl)
theorem dX3_turns_9 : decode cX3_turns 9 = .ok (.astore_n 2, 1) := dk_77 (dk_at dksX3_turns_0 9 rfl rfl)
theorem dX3_turns_10 : decode cX3_turns 10 = .ok (.aload_n 2, 1) := dk_44 (dk_at dksX3_turns_0 10 rfl rfl)
theorem dX3_turns_11 : decode cX3_turns 11 = .ok (.invokeinterface 33 1, 5) := by decide +kernel
theorem dX3_turns_16 : decode cX3_turns 16 = .ok (.ifCond .eq 39, 3) := dk_153 0 39 (dk_at dksX3_turns_0 16 rfl rfl)
theorem dX3_turns_19 : decode cX3_turns 19 = .ok (.aload_n 2, 1) := dk_44 (dk_at dksX3_turns_0 19 rfl rfl)
theorem dX3_turns_20 : decode cX3_turns 20 = .ok (.invokeinterface 39 1, 5) := by decide +kernel
theorem dX3_turns_25 : decode cX3_turns 25 = .ok (.checkcast 43, 3) := dk_192 0 43 (dk_at dksX3_turns_1 5 rfl rfl)
theorem dX3_turns_28 : decode cX3_turns 28 = .ok (.astore_n 3, 1) := dk_78 (dk_at dksX3_turns_1 8 rfl rfl)
theorem dX3_turns_29 : decode cX3_turns 29 = .ok (.iload_n 1, 1) := dk_27 (dk_at dksX3_turns_1 9 rfl rfl)
theorem dX3_turns_30 : decode cX3_turns 30 = .ok (.aload_n 3, 1) := dk_45 (dk_at dksX3_turns_1 10 rfl rfl)
theorem dX3_turns_31 : decode cX3_turns 31 = .ok (.invokeinterface 86 1, 5) := by decide +kernel
theorem dX3_turns_36 : decode cX3_turns 36 = .ok (.aload_n 3, 1) := dk_45 (dk_at dksX3_turns_1 16 rfl rfl)
theorem dX3_turns_37 : decode cX3_turns 37 = .ok (.invokeinterface 89 1, 5) := by decide +kernel
theorem dX3_turns_42 : decode cX3_turns 42 = .ok (.if_icmp .ne 7, 3) := dk_160 0 7 (dk_at dksX3_turns_2 0 rfl rfl)
theorem dX3_turns_45 : decode cX3_turns 45 = .ok (.iconst 0, 1) := dk_3 (dk_at dksX3_turns_2 3 rfl rfl)
theorem dX3_turns_46 : decode cX3_turns 46 = .ok (.goto 4, 3) := dk_167 0 4 (dk_at dksX3_turns_2 4 rfl rfl)
theorem dX3_turns_49 : decode cX3_turns 49 = .ok (.iconst 1, 1) := dk_4 (dk_at dksX3_turns_2 7 rfl rfl)
theorem dX3_turns_50 : decode cX3_turns 50 = .ok (.iadd, 1) := dk_96 (dk_at dksX3_turns_2 8 rfl rfl)
theorem dX3_turns_51 : decode cX3_turns 51 = .ok (.istore_n 1, 1) := dk_60 (dk_at dksX3_turns_2 9 rfl rfl)
theorem dX3_turns_52 : decode cX3_turns 52 = .ok (.goto (-42), 3) := dk_167 255 214 (dk_at dksX3_turns_2 10 rfl rfl)
theorem dX3_turns_55 : decode cX3_turns 55 = .ok (.iload_n 1, 1) := dk_27 (dk_at dksX3_turns_2 13 rfl rfl)
theorem dX3_turns_56 : decode cX3_turns 56 = .ok (.ifCond .ne 7, 3) := dk_154 0 7 (dk_at dksX3_turns_2 14 rfl rfl)
theorem dX3_turns_59 : decode cX3_turns 59 = .ok (.iconst 1, 1) := dk_4 (dk_at dksX3_turns_2 17 rfl rfl)
theorem dX3_turns_60 : decode cX3_turns 60 = .ok (.goto 4, 3) := dk_167 0 4 (dk_at dksX3_turns_2 18 rfl rfl)
theorem dX3_turns_63 : decode cX3_turns 63 = .ok (.iconst 0, 1) := dk_3 (dk_at dksX3_turns_2 21 rfl rfl)
theorem dX3_turns_64 : decode cX3_turns 64 = .ok (.iconst 4, 1) := dk_7 (dk_at dksX3_turns_2 22 rfl rfl)
theorem dX3_turns_65 : decode cX3_turns 65 = .ok (.aload_n 0, 1) := dk_42 (dk_at dksX3_turns_2 23 rfl rfl)
theorem dX3_turns_66 : decode cX3_turns 66 = .ok (.getfield 14, 3) := dk_180 0 14 (dk_at dksX3_turns_3 0 rfl rfl)
theorem dX3_turns_69 : decode cX3_turns 69 = .ok (.invokevirtual 53, 3) := dk_182 0 53 (dk_at dksX3_turns_3 3 rfl rfl)
theorem dX3_turns_72 : decode cX3_turns 72 = .ok (.invokestatic 57, 3) := dk_184 0 57 (dk_at dksX3_turns_3 6 rfl rfl)
theorem dX3_turns_75 : decode cX3_turns 75 = .ok (.iconst 0, 1) := dk_3 (dk_at dksX3_turns_3 9 rfl rfl)
theorem dX3_turns_76 : decode cX3_turns 76 = .ok (.istore_n 2, 1) := dk_61 (dk_at dksX3_turns_3 10 rfl rfl)
theorem dX3_turns_77 : decode cX3_turns 77 = .ok (.iload_n 2, 1) := dk_28 (dk_at dksX3_turns_3 11 rfl rfl)
theorem dX3_turns_78 : decode cX3_turns 78 = .ok (.aload_n 0, 1) := dk_42 (dk_at dksX3_turns_3 12 rfl rfl)
theorem dX3_turns_79 : decode cX3_turns 79 = .ok (.getfield 14, 3) := dk_180 0 14 (dk_at dksX3_turns_3 13 rfl rfl)
theorem dX3_turns_82 : decode cX3_turns 82 = .ok (.invokevirtual 53, 3) := dk_182 0 53 (dk_at dksX3_turns_3 16 rfl rfl)
theorem dX3_turns_85 : decode cX3_turns 85 = .ok (.if_icmp .ge 35, 3) := dk_162 0 35 (dk_at dksX3_turns_3 19 rfl rfl)
theorem dX3_turns_88 : decode cX3_turns 88 = .ok (.aload_n 0, 1) := dk_42 (dk_at dksX3_turns_3 22 rfl rfl)
theorem dX3_turns_89 : decode cX3_turns 89 = .ok (.getfield 14, 3) := dk_180 0 14 (dk_at dksX3_turns_4 0 rfl rfl)
theorem dX3_turns_92 : decode cX3_turns 92 = .ok (.iload_n 2, 1) := dk_28 (dk_at dksX3_turns_4 3 rfl rfl)
theorem dX3_turns_93 : decode cX3_turns 93 = .ok (.aload_n 0, 1) := dk_42 (dk_at dksX3_turns_4 4 rfl rfl)
theorem dX3_turns_94 : decode cX3_turns 94 = .ok (.getfield 14, 3) := dk_180 0 14 (dk_at dksX3_turns_4 5 rfl rfl)
theorem dX3_turns_97 : decode cX3_turns 97 = .ok (.iload_n 2, 1) := dk_28 (dk_at dksX3_turns_4 8 rfl rfl)
theorem dX3_turns_98 : decode cX3_turns 98 = .ok (.invokevirtual 64, 3) := dk_182 0 64 (dk_at dksX3_turns_4 9 rfl rfl)
theorem dX3_turns_101 : decode cX3_turns 101 = .ok (.checkcast 43, 3) := dk_192 0 43 (dk_at dksX3_turns_4 12 rfl rfl)
theorem dX3_turns_104 : decode cX3_turns 104 = .ok (.invokestatic 92, 3) := dk_184 0 92 (dk_at dksX3_turns_4 15 rfl rfl)
theorem dX3_turns_107 : decode cX3_turns 107 = .ok (.invokevirtual 79, 3) := dk_182 0 79 (dk_at dksX3_turns_4 18 rfl rfl)
theorem dX3_turns_110 : decode cX3_turns 110 = .ok (.checkcast 43, 3) := dk_192 0 43 (dk_at dksX3_turns_4 21 rfl rfl)
theorem dX3_turns_113 : decode cX3_turns 113 = .ok (.astore_n 3, 1) := dk_78 (dk_at dksX3_turns_5 0 rfl rfl)
theorem dX3_turns_114 : decode cX3_turns 114 = .ok (.iinc 2 1, 3) := dk_132 2 1 (dk_at dksX3_turns_5 1 rfl rfl)
theorem dX3_turns_117 : decode cX3_turns 117 = .ok (.goto (-40), 3) := dk_167 255 216 (dk_at dksX3_turns_5 4 rfl rfl)
theorem dX3_turns_120 : decode cX3_turns 120 = .ok (.iload_n 1, 1) := dk_27 (dk_at dksX3_turns_5 7 rfl rfl)
theorem dX3_turns_121 : decode cX3_turns 121 = .ok (.ireturn, 1) := dk_172 (dk_at dksX3_turns_5 8 rfl rfl)
abbrev cX3_ofArc : ByteArray := prog_12_method_20_code
def yX3_ofArc : MethodName := ⟨RX3, "ofArc", "(II)I"⟩
def dkwX3_ofArc_3 : List UInt8 := [167, 0, 23, 45, 185, 0, 89, 1, 0, 167, 0, 14, 45, 185, 0, 72, 1, 0, 167, 0, 5, 16, 244, 172]
abbrev dktX3_ofArc_3 : List UInt8 := dkwX3_ofArc_3 ++ []
def dkwX3_ofArc_2 : List UInt8 := [45, 185, 0, 96, 1, 0, 167, 0, 41, 45, 185, 0, 99, 1, 0, 167, 0, 32, 45, 185, 0, 86, 1, 0]
abbrev dktX3_ofArc_2 : List UInt8 := dkwX3_ofArc_2 ++ dktX3_ofArc_3
def dkwX3_ofArc_1 : List UInt8 := [170, 0, 0, 0, 0, 0, 80, 0, 0, 0, 0, 0, 0, 0, 4, 0, 0, 0, 35, 0, 0, 0, 44, 0, 0, 0, 53, 0, 0, 0, 62, 0, 0, 0, 71]
abbrev dktX3_ofArc_1 : List UInt8 := dkwX3_ofArc_1 ++ dktX3_ofArc_2
def dkwX3_ofArc_0 : List UInt8 := [42, 180, 0, 14, 27, 182, 0, 64, 192, 0, 43, 78, 28]
abbrev dktX3_ofArc_0 : List UInt8 := dkwX3_ofArc_0 ++ dktX3_ofArc_1
theorem dksX3_ofArc_0 : cX3_ofArc.data.toList.drop 0 = dktX3_ofArc_0 := by decide +kernel
theorem dksX3_ofArc_1 : cX3_ofArc.data.toList.drop 13 = dktX3_ofArc_1 := dk_seg dksX3_ofArc_0 13 rfl rfl
theorem dksX3_ofArc_2 : cX3_ofArc.data.toList.drop 48 = dktX3_ofArc_2 := dk_seg dksX3_ofArc_1 35 rfl rfl
theorem dksX3_ofArc_3 : cX3_ofArc.data.toList.drop 72 = dktX3_ofArc_3 := dk_seg dksX3_ofArc_2 24 rfl rfl
theorem dX3_ofArc_0 : decode cX3_ofArc 0 = .ok (.aload_n 0, 1) := dk_42 (dk_at dksX3_ofArc_0 0 rfl rfl)
theorem dX3_ofArc_1 : decode cX3_ofArc 1 = .ok (.getfield 14, 3) := dk_180 0 14 (dk_at dksX3_ofArc_0 1 rfl rfl)
theorem dX3_ofArc_4 : decode cX3_ofArc 4 = .ok (.iload_n 1, 1) := dk_27 (dk_at dksX3_ofArc_0 4 rfl rfl)
theorem dX3_ofArc_5 : decode cX3_ofArc 5 = .ok (.invokevirtual 64, 3) := dk_182 0 64 (dk_at dksX3_ofArc_0 5 rfl rfl)
theorem dX3_ofArc_8 : decode cX3_ofArc 8 = .ok (.checkcast 43, 3) := dk_192 0 43 (dk_at dksX3_ofArc_0 8 rfl rfl)
theorem dX3_ofArc_11 : decode cX3_ofArc 11 = .ok (.astore_n 3, 1) := dk_78 (dk_at dksX3_ofArc_0 11 rfl rfl)
theorem dX3_ofArc_12 : decode cX3_ofArc 12 = .ok (.iload_n 2, 1) := dk_28 (dk_at dksX3_ofArc_0 12 rfl rfl)
theorem dX3_ofArc_13 : decode cX3_ofArc 13 = .ok (.tableswitch 80 0 4 #[35, 44, 53, 62, 71], 35) := by decide +kernel
theorem dX3_ofArc_48 : decode cX3_ofArc 48 = .ok (.aload_n 3, 1) := dk_45 (dk_at dksX3_ofArc_2 0 rfl rfl)
theorem dX3_ofArc_49 : decode cX3_ofArc 49 = .ok (.invokeinterface 96 1, 5) := by decide +kernel
theorem dX3_ofArc_54 : decode cX3_ofArc 54 = .ok (.goto 41, 3) := dk_167 0 41 (dk_at dksX3_ofArc_2 6 rfl rfl)
theorem dX3_ofArc_57 : decode cX3_ofArc 57 = .ok (.aload_n 3, 1) := dk_45 (dk_at dksX3_ofArc_2 9 rfl rfl)
theorem dX3_ofArc_58 : decode cX3_ofArc 58 = .ok (.invokeinterface 99 1, 5) := by decide +kernel
theorem dX3_ofArc_63 : decode cX3_ofArc 63 = .ok (.goto 32, 3) := dk_167 0 32 (dk_at dksX3_ofArc_2 15 rfl rfl)
theorem dX3_ofArc_66 : decode cX3_ofArc 66 = .ok (.aload_n 3, 1) := dk_45 (dk_at dksX3_ofArc_2 18 rfl rfl)
theorem dX3_ofArc_67 : decode cX3_ofArc 67 = .ok (.invokeinterface 86 1, 5) := by decide +kernel
theorem dX3_ofArc_72 : decode cX3_ofArc 72 = .ok (.goto 23, 3) := dk_167 0 23 (dk_at dksX3_ofArc_3 0 rfl rfl)
theorem dX3_ofArc_75 : decode cX3_ofArc 75 = .ok (.aload_n 3, 1) := dk_45 (dk_at dksX3_ofArc_3 3 rfl rfl)
theorem dX3_ofArc_76 : decode cX3_ofArc 76 = .ok (.invokeinterface 89 1, 5) := by decide +kernel
theorem dX3_ofArc_81 : decode cX3_ofArc 81 = .ok (.goto 14, 3) := dk_167 0 14 (dk_at dksX3_ofArc_3 9 rfl rfl)
theorem dX3_ofArc_84 : decode cX3_ofArc 84 = .ok (.aload_n 3, 1) := dk_45 (dk_at dksX3_ofArc_3 12 rfl rfl)
theorem dX3_ofArc_85 : decode cX3_ofArc 85 = .ok (.invokeinterface 72 1, 5) := by decide +kernel
theorem dX3_ofArc_90 : decode cX3_ofArc 90 = .ok (.goto 5, 3) := dk_167 0 5 (dk_at dksX3_ofArc_3 18 rfl rfl)
theorem dX3_ofArc_93 : decode cX3_ofArc 93 = .ok (.bipush (-12), 2) := dk_16 244 (dk_at dksX3_ofArc_3 21 rfl rfl)
theorem dX3_ofArc_95 : decode cX3_ofArc 95 = .ok (.ireturn, 1) := dk_172 (dk_at dksX3_ofArc_3 23 rfl rfl)
abbrev cX3_ofState : ByteArray := prog_12_method_19_code
def yX3_ofState : MethodName := ⟨RX3, "ofState", "(II)I"⟩
def dkwX3_ofState_5 : List UInt8 := [167, 0, 5, 16, 244, 172]
abbrev dktX3_ofState_5 : List UInt8 := dkwX3_ofState_5 ++ []
def dkwX3_ofState_4 : List UInt8 := [153, 0, 7, 4, 167, 0, 25, 3, 167, 0, 21, 42, 27, 182, 0, 126, 167, 0, 13, 42, 27, 182, 0, 107]
abbrev dktX3_ofState_4 : List UInt8 := dkwX3_ofState_4 ++ dktX3_ofState_5
def dkwX3_ofState_3 : List UInt8 := [42, 27, 28, 4, 160, 0, 7, 4, 167, 0, 4, 3, 182, 0, 119, 167, 0, 38, 42, 182, 0, 123, 27, 51]
abbrev dktX3_ofState_3 : List UInt8 := dkwX3_ofState_3 ++ dktX3_ofState_4
def dkwX3_ofState_2 : List UInt8 := [42, 180, 0, 20, 27, 46, 2, 160, 0, 8, 16, 241, 167, 0, 65, 42, 180, 0, 20, 27, 46, 167, 0, 56]
abbrev dktX3_ofState_2 : List UInt8 := dkwX3_ofState_2 ++ dktX3_ofState_3
def dkwX3_ofState_1 : List UInt8 := [170, 0, 0, 0, 0, 0, 114, 0, 0, 0, 0, 0, 0, 0, 5, 0, 0, 0, 39, 0, 0, 0, 63, 0, 0, 0, 63, 0, 0, 0, 81, 0, 0, 0, 98, 0, 0, 0, 106]
abbrev dktX3_ofState_1 : List UInt8 := dkwX3_ofState_1 ++ dktX3_ofState_2
def dkwX3_ofState_0 : List UInt8 := [28]
abbrev dktX3_ofState_0 : List UInt8 := dkwX3_ofState_0 ++ dktX3_ofState_1
theorem dksX3_ofState_0 : cX3_ofState.data.toList.drop 0 = dktX3_ofState_0 := by decide +kernel
theorem dksX3_ofState_1 : cX3_ofState.data.toList.drop 1 = dktX3_ofState_1 := dk_seg dksX3_ofState_0 1 rfl rfl
theorem dksX3_ofState_2 : cX3_ofState.data.toList.drop 40 = dktX3_ofState_2 := dk_seg dksX3_ofState_1 39 rfl rfl
theorem dksX3_ofState_3 : cX3_ofState.data.toList.drop 64 = dktX3_ofState_3 := dk_seg dksX3_ofState_2 24 rfl rfl
theorem dksX3_ofState_4 : cX3_ofState.data.toList.drop 88 = dktX3_ofState_4 := dk_seg dksX3_ofState_3 24 rfl rfl
theorem dksX3_ofState_5 : cX3_ofState.data.toList.drop 112 = dktX3_ofState_5 := dk_seg dksX3_ofState_4 24 rfl rfl
theorem dX3_ofState_0 : decode cX3_ofState 0 = .ok (.iload_n 2, 1) := dk_28 (dk_at dksX3_ofState_0 0 rfl rfl)
theorem dX3_ofState_1 : decode cX3_ofState 1 = .ok (.tableswitch 114 0 5 #[39, 63, 63, 81, 98, 106], 39) := by decide +kernel
theorem dX3_ofState_40 : decode cX3_ofState 40 = .ok (.aload_n 0, 1) := dk_42 (dk_at dksX3_ofState_2 0 rfl rfl)
theorem dX3_ofState_41 : decode cX3_ofState 41 = .ok (.getfield 20, 3) := dk_180 0 20 (dk_at dksX3_ofState_2 1 rfl rfl)
theorem dX3_ofState_44 : decode cX3_ofState 44 = .ok (.iload_n 1, 1) := dk_27 (dk_at dksX3_ofState_2 4 rfl rfl)
theorem dX3_ofState_45 : decode cX3_ofState 45 = .ok (.iaload, 1) := dk_46 (dk_at dksX3_ofState_2 5 rfl rfl)
theorem dX3_ofState_46 : decode cX3_ofState 46 = .ok (.iconst (-1), 1) := dk_2 (dk_at dksX3_ofState_2 6 rfl rfl)
theorem dX3_ofState_47 : decode cX3_ofState 47 = .ok (.if_icmp .ne 8, 3) := dk_160 0 8 (dk_at dksX3_ofState_2 7 rfl rfl)
theorem dX3_ofState_50 : decode cX3_ofState 50 = .ok (.bipush (-15), 2) := dk_16 241 (dk_at dksX3_ofState_2 10 rfl rfl)
theorem dX3_ofState_52 : decode cX3_ofState 52 = .ok (.goto 65, 3) := dk_167 0 65 (dk_at dksX3_ofState_2 12 rfl rfl)
theorem dX3_ofState_55 : decode cX3_ofState 55 = .ok (.aload_n 0, 1) := dk_42 (dk_at dksX3_ofState_2 15 rfl rfl)
theorem dX3_ofState_56 : decode cX3_ofState 56 = .ok (.getfield 20, 3) := dk_180 0 20 (dk_at dksX3_ofState_2 16 rfl rfl)
theorem dX3_ofState_59 : decode cX3_ofState 59 = .ok (.iload_n 1, 1) := dk_27 (dk_at dksX3_ofState_2 19 rfl rfl)
theorem dX3_ofState_60 : decode cX3_ofState 60 = .ok (.iaload, 1) := dk_46 (dk_at dksX3_ofState_2 20 rfl rfl)
theorem dX3_ofState_61 : decode cX3_ofState 61 = .ok (.goto 56, 3) := dk_167 0 56 (dk_at dksX3_ofState_2 21 rfl rfl)
theorem dX3_ofState_64 : decode cX3_ofState 64 = .ok (.aload_n 0, 1) := dk_42 (dk_at dksX3_ofState_3 0 rfl rfl)
theorem dX3_ofState_65 : decode cX3_ofState 65 = .ok (.iload_n 1, 1) := dk_27 (dk_at dksX3_ofState_3 1 rfl rfl)
theorem dX3_ofState_66 : decode cX3_ofState 66 = .ok (.iload_n 2, 1) := dk_28 (dk_at dksX3_ofState_3 2 rfl rfl)
theorem dX3_ofState_67 : decode cX3_ofState 67 = .ok (.iconst 1, 1) := dk_4 (dk_at dksX3_ofState_3 3 rfl rfl)
theorem dX3_ofState_68 : decode cX3_ofState 68 = .ok (.if_icmp .ne 7, 3) := dk_160 0 7 (dk_at dksX3_ofState_3 4 rfl rfl)
theorem dX3_ofState_71 : decode cX3_ofState 71 = .ok (.iconst 1, 1) := dk_4 (dk_at dksX3_ofState_3 7 rfl rfl)
theorem dX3_ofState_72 : decode cX3_ofState 72 = .ok (.goto 4, 3) := dk_167 0 4 (dk_at dksX3_ofState_3 8 rfl rfl)
theorem dX3_ofState_75 : decode cX3_ofState 75 = .ok (.iconst 0, 1) := dk_3 (dk_at dksX3_ofState_3 11 rfl rfl)
theorem dX3_ofState_76 : decode cX3_ofState 76 = .ok (.invokevirtual 119, 3) := dk_182 0 119 (dk_at dksX3_ofState_3 12 rfl rfl)
theorem dX3_ofState_79 : decode cX3_ofState 79 = .ok (.goto 38, 3) := dk_167 0 38 (dk_at dksX3_ofState_3 15 rfl rfl)
theorem dX3_ofState_82 : decode cX3_ofState 82 = .ok (.aload_n 0, 1) := dk_42 (dk_at dksX3_ofState_3 18 rfl rfl)
theorem dX3_ofState_83 : decode cX3_ofState 83 = .ok (.invokevirtual 123, 3) := dk_182 0 123 (dk_at dksX3_ofState_3 19 rfl rfl)
theorem dX3_ofState_86 : decode cX3_ofState 86 = .ok (.iload_n 1, 1) := dk_27 (dk_at dksX3_ofState_3 22 rfl rfl)
theorem dX3_ofState_87 : decode cX3_ofState 87 = .ok (.baload, 1) := dk_51 (dk_at dksX3_ofState_3 23 rfl rfl)
theorem dX3_ofState_88 : decode cX3_ofState 88 = .ok (.ifCond .eq 7, 3) := dk_153 0 7 (dk_at dksX3_ofState_4 0 rfl rfl)
theorem dX3_ofState_91 : decode cX3_ofState 91 = .ok (.iconst 1, 1) := dk_4 (dk_at dksX3_ofState_4 3 rfl rfl)
theorem dX3_ofState_92 : decode cX3_ofState 92 = .ok (.goto 25, 3) := dk_167 0 25 (dk_at dksX3_ofState_4 4 rfl rfl)
theorem dX3_ofState_95 : decode cX3_ofState 95 = .ok (.iconst 0, 1) := dk_3 (dk_at dksX3_ofState_4 7 rfl rfl)
theorem dX3_ofState_96 : decode cX3_ofState 96 = .ok (.goto 21, 3) := dk_167 0 21 (dk_at dksX3_ofState_4 8 rfl rfl)
theorem dX3_ofState_99 : decode cX3_ofState 99 = .ok (.aload_n 0, 1) := dk_42 (dk_at dksX3_ofState_4 11 rfl rfl)
theorem dX3_ofState_100 : decode cX3_ofState 100 = .ok (.iload_n 1, 1) := dk_27 (dk_at dksX3_ofState_4 12 rfl rfl)
theorem dX3_ofState_101 : decode cX3_ofState 101 = .ok (.invokevirtual 126, 3) := dk_182 0 126 (dk_at dksX3_ofState_4 13 rfl rfl)
theorem dX3_ofState_104 : decode cX3_ofState 104 = .ok (.goto 13, 3) := dk_167 0 13 (dk_at dksX3_ofState_4 16 rfl rfl)
theorem dX3_ofState_107 : decode cX3_ofState 107 = .ok (.aload_n 0, 1) := dk_42 (dk_at dksX3_ofState_4 19 rfl rfl)
theorem dX3_ofState_108 : decode cX3_ofState 108 = .ok (.iload_n 1, 1) := dk_27 (dk_at dksX3_ofState_4 20 rfl rfl)
theorem dX3_ofState_109 : decode cX3_ofState 109 = .ok (.invokevirtual 107, 3) := dk_182 0 107 (dk_at dksX3_ofState_4 21 rfl rfl)
theorem dX3_ofState_112 : decode cX3_ofState 112 = .ok (.goto 5, 3) := dk_167 0 5 (dk_at dksX3_ofState_5 0 rfl rfl)
theorem dX3_ofState_115 : decode cX3_ofState 115 = .ok (.bipush (-12), 2) := dk_16 244 (dk_at dksX3_ofState_5 3 rfl rfl)
theorem dX3_ofState_117 : decode cX3_ofState 117 = .ok (.ireturn, 1) := dk_172 (dk_at dksX3_ofState_5 5 rfl rfl)
abbrev cX3_arcsAt : ByteArray := prog_12_method_15_code
def yX3_arcsAt : MethodName := ⟨RX3, "arcsAt", "(IZ)I"⟩
def dkwX3_arcsAt_3 : List UInt8 := [29, 172]
abbrev dktX3_arcsAt_3 : List UInt8 := dkwX3_arcsAt_3 ++ []
def dkwX3_arcsAt_2 : List UInt8 := [167, 0, 10, 25, 5, 185, 0, 99, 1, 0, 27, 160, 0, 7, 4, 167, 0, 4, 3, 96, 62, 167, 255, 201]
abbrev dktX3_arcsAt_2 : List UInt8 := dkwX3_arcsAt_2 ++ dktX3_arcsAt_3
def dkwX3_arcsAt_1 : List UInt8 := [185, 0, 39, 1, 0, 192, 0, 43, 58, 5, 29, 28, 153, 0, 13, 25, 5, 185, 0, 96, 1, 0]
abbrev dktX3_arcsAt_1 : List UInt8 := dkwX3_arcsAt_1 ++ dktX3_arcsAt_2
def dkwX3_arcsAt_0 : List UInt8 := [3, 62, 42, 180, 0, 14, 182, 0, 29, 58, 4, 25, 4, 185, 0, 33, 1, 0, 153, 0, 51, 25, 4]
abbrev dktX3_arcsAt_0 : List UInt8 := dkwX3_arcsAt_0 ++ dktX3_arcsAt_1
theorem dksX3_arcsAt_0 : cX3_arcsAt.data.toList.drop 0 = dktX3_arcsAt_0 := by decide +kernel
theorem dksX3_arcsAt_1 : cX3_arcsAt.data.toList.drop 23 = dktX3_arcsAt_1 := dk_seg dksX3_arcsAt_0 23 rfl rfl
theorem dksX3_arcsAt_2 : cX3_arcsAt.data.toList.drop 45 = dktX3_arcsAt_2 := dk_seg dksX3_arcsAt_1 22 rfl rfl
theorem dksX3_arcsAt_3 : cX3_arcsAt.data.toList.drop 69 = dktX3_arcsAt_3 := dk_seg dksX3_arcsAt_2 24 rfl rfl
theorem dX3_arcsAt_0 : decode cX3_arcsAt 0 = .ok (.iconst 0, 1) := dk_3 (dk_at dksX3_arcsAt_0 0 rfl rfl)
theorem dX3_arcsAt_1 : decode cX3_arcsAt 1 = .ok (.istore_n 3, 1) := dk_62 (dk_at dksX3_arcsAt_0 1 rfl rfl)
theorem dX3_arcsAt_2 : decode cX3_arcsAt 2 = .ok (.aload_n 0, 1) := dk_42 (dk_at dksX3_arcsAt_0 2 rfl rfl)
theorem dX3_arcsAt_3 : decode cX3_arcsAt 3 = .ok (.getfield 14, 3) := dk_180 0 14 (dk_at dksX3_arcsAt_0 3 rfl rfl)
theorem dX3_arcsAt_6 : decode cX3_arcsAt 6 = .ok (.invokevirtual 29, 3) := dk_182 0 29 (dk_at dksX3_arcsAt_0 6 rfl rfl)
theorem dX3_arcsAt_9 : decode cX3_arcsAt 9 = .ok (.astore 4, 2) := dk_58 4 (dk_at dksX3_arcsAt_0 9 rfl rfl)
theorem dX3_arcsAt_11 : decode cX3_arcsAt 11 = .ok (.aload 4, 2) := dk_25 4 (dk_at dksX3_arcsAt_0 11 rfl rfl)
theorem dX3_arcsAt_13 : decode cX3_arcsAt 13 = .ok (.invokeinterface 33 1, 5) := by decide +kernel
theorem dX3_arcsAt_18 : decode cX3_arcsAt 18 = .ok (.ifCond .eq 51, 3) := dk_153 0 51 (dk_at dksX3_arcsAt_0 18 rfl rfl)
theorem dX3_arcsAt_21 : decode cX3_arcsAt 21 = .ok (.aload 4, 2) := dk_25 4 (dk_at dksX3_arcsAt_0 21 rfl rfl)
theorem dX3_arcsAt_23 : decode cX3_arcsAt 23 = .ok (.invokeinterface 39 1, 5) := by decide +kernel
theorem dX3_arcsAt_28 : decode cX3_arcsAt 28 = .ok (.checkcast 43, 3) := dk_192 0 43 (dk_at dksX3_arcsAt_1 5 rfl rfl)
theorem dX3_arcsAt_31 : decode cX3_arcsAt 31 = .ok (.astore 5, 2) := dk_58 5 (dk_at dksX3_arcsAt_1 8 rfl rfl)
theorem dX3_arcsAt_33 : decode cX3_arcsAt 33 = .ok (.iload_n 3, 1) := dk_29 (dk_at dksX3_arcsAt_1 10 rfl rfl)
theorem dX3_arcsAt_34 : decode cX3_arcsAt 34 = .ok (.iload_n 2, 1) := dk_28 (dk_at dksX3_arcsAt_1 11 rfl rfl)
theorem dX3_arcsAt_35 : decode cX3_arcsAt 35 = .ok (.ifCond .eq 13, 3) := dk_153 0 13 (dk_at dksX3_arcsAt_1 12 rfl rfl)
theorem dX3_arcsAt_38 : decode cX3_arcsAt 38 = .ok (.aload 5, 2) := dk_25 5 (dk_at dksX3_arcsAt_1 15 rfl rfl)
theorem dX3_arcsAt_40 : decode cX3_arcsAt 40 = .ok (.invokeinterface 96 1, 5) := by decide +kernel
theorem dX3_arcsAt_45 : decode cX3_arcsAt 45 = .ok (.goto 10, 3) := dk_167 0 10 (dk_at dksX3_arcsAt_2 0 rfl rfl)
theorem dX3_arcsAt_48 : decode cX3_arcsAt 48 = .ok (.aload 5, 2) := dk_25 5 (dk_at dksX3_arcsAt_2 3 rfl rfl)
theorem dX3_arcsAt_50 : decode cX3_arcsAt 50 = .ok (.invokeinterface 99 1, 5) := by decide +kernel
theorem dX3_arcsAt_55 : decode cX3_arcsAt 55 = .ok (.iload_n 1, 1) := dk_27 (dk_at dksX3_arcsAt_2 10 rfl rfl)
theorem dX3_arcsAt_56 : decode cX3_arcsAt 56 = .ok (.if_icmp .ne 7, 3) := dk_160 0 7 (dk_at dksX3_arcsAt_2 11 rfl rfl)
theorem dX3_arcsAt_59 : decode cX3_arcsAt 59 = .ok (.iconst 1, 1) := dk_4 (dk_at dksX3_arcsAt_2 14 rfl rfl)
theorem dX3_arcsAt_60 : decode cX3_arcsAt 60 = .ok (.goto 4, 3) := dk_167 0 4 (dk_at dksX3_arcsAt_2 15 rfl rfl)
theorem dX3_arcsAt_63 : decode cX3_arcsAt 63 = .ok (.iconst 0, 1) := dk_3 (dk_at dksX3_arcsAt_2 18 rfl rfl)
theorem dX3_arcsAt_64 : decode cX3_arcsAt 64 = .ok (.iadd, 1) := dk_96 (dk_at dksX3_arcsAt_2 19 rfl rfl)
theorem dX3_arcsAt_65 : decode cX3_arcsAt 65 = .ok (.istore_n 3, 1) := dk_62 (dk_at dksX3_arcsAt_2 20 rfl rfl)
theorem dX3_arcsAt_66 : decode cX3_arcsAt 66 = .ok (.goto (-55), 3) := dk_167 255 201 (dk_at dksX3_arcsAt_2 21 rfl rfl)
theorem dX3_arcsAt_69 : decode cX3_arcsAt 69 = .ok (.iload_n 3, 1) := dk_29 (dk_at dksX3_arcsAt_3 0 rfl rfl)
theorem dX3_arcsAt_70 : decode cX3_arcsAt 70 = .ok (.ireturn, 1) := dk_172 (dk_at dksX3_arcsAt_3 1 rfl rfl)
abbrev cX3_states : ByteArray := prog_12_method_3_code
def yX3_states : MethodName := ⟨RX3, "states", "()I"⟩
theorem dX3_states_0 : decode cX3_states 0 = .ok (.aload_n 0, 1) := by decide +kernel
theorem dX3_states_1 : decode cX3_states 1 = .ok (.getfield 24, 3) := by decide +kernel
theorem dX3_states_4 : decode cX3_states 4 = .ok (.ireturn, 1) := by decide +kernel
abbrev cX3_arcs : ByteArray := prog_12_method_4_code
def yX3_arcs : MethodName := ⟨RX3, "arcs", "()Ljava/util/ArrayList;"⟩
theorem dX3_arcs_0 : decode cX3_arcs 0 = .ok (.aload_n 0, 1) := by decide +kernel
theorem dX3_arcs_1 : decode cX3_arcs 1 = .ok (.getfield 14, 3) := by decide +kernel
theorem dX3_arcs_4 : decode cX3_arcs 4 = .ok (.areturn, 1) := by decide +kernel
abbrev cX3_end : ByteArray := prog_12_method_5_code
def yX3_end : MethodName := ⟨RX3, "end", "(I)I"⟩
def dkwX3_end_0 : List UInt8 := [42, 180, 0, 20, 27, 46, 172]
abbrev dktX3_end_0 : List UInt8 := dkwX3_end_0 ++ []
theorem dksX3_end_0 : cX3_end.data.toList.drop 0 = dktX3_end_0 := by decide +kernel
theorem dX3_end_0 : decode cX3_end 0 = .ok (.aload_n 0, 1) := dk_42 (dk_at dksX3_end_0 0 rfl rfl)
theorem dX3_end_1 : decode cX3_end 1 = .ok (.getfield 20, 3) := dk_180 0 20 (dk_at dksX3_end_0 1 rfl rfl)
theorem dX3_end_4 : decode cX3_end 4 = .ok (.iload_n 1, 1) := dk_27 (dk_at dksX3_end_0 4 rfl rfl)
theorem dX3_end_5 : decode cX3_end 5 = .ok (.iaload, 1) := dk_46 (dk_at dksX3_end_0 5 rfl rfl)
theorem dX3_end_6 : decode cX3_end 6 = .ok (.ireturn, 1) := dk_172 (dk_at dksX3_end_0 6 rfl rfl)
abbrev cX3_breathSet : ByteArray := prog_12_method_16_code
def yX3_breathSet : MethodName := ⟨RX3, "breathSet", "(I)I"⟩
def dkwX3_breathSet_1 : List UInt8 := [21, 4, 51, 153, 0, 10, 4, 21, 4, 120, 167, 0, 4, 3, 128, 61, 132, 4, 1, 167, 255, 226, 28, 172]
abbrev dktX3_breathSet_1 : List UInt8 := dkwX3_breathSet_1 ++ []
def dkwX3_breathSet_0 : List UInt8 := [3, 61, 42, 27, 4, 182, 0, 102, 78, 3, 54, 4, 21, 4, 42, 180, 0, 24, 162, 0, 27, 28, 45]
abbrev dktX3_breathSet_0 : List UInt8 := dkwX3_breathSet_0 ++ dktX3_breathSet_1
theorem dksX3_breathSet_0 : cX3_breathSet.data.toList.drop 0 = dktX3_breathSet_0 := by decide +kernel
theorem dksX3_breathSet_1 : cX3_breathSet.data.toList.drop 23 = dktX3_breathSet_1 := dk_seg dksX3_breathSet_0 23 rfl rfl
theorem dX3_breathSet_0 : decode cX3_breathSet 0 = .ok (.iconst 0, 1) := dk_3 (dk_at dksX3_breathSet_0 0 rfl rfl)
theorem dX3_breathSet_1 : decode cX3_breathSet 1 = .ok (.istore_n 2, 1) := dk_61 (dk_at dksX3_breathSet_0 1 rfl rfl)
theorem dX3_breathSet_2 : decode cX3_breathSet 2 = .ok (.aload_n 0, 1) := dk_42 (dk_at dksX3_breathSet_0 2 rfl rfl)
theorem dX3_breathSet_3 : decode cX3_breathSet 3 = .ok (.iload_n 1, 1) := dk_27 (dk_at dksX3_breathSet_0 3 rfl rfl)
theorem dX3_breathSet_4 : decode cX3_breathSet 4 = .ok (.iconst 1, 1) := dk_4 (dk_at dksX3_breathSet_0 4 rfl rfl)
theorem dX3_breathSet_5 : decode cX3_breathSet 5 = .ok (.invokevirtual 102, 3) := dk_182 0 102 (dk_at dksX3_breathSet_0 5 rfl rfl)
theorem dX3_breathSet_8 : decode cX3_breathSet 8 = .ok (.astore_n 3, 1) := dk_78 (dk_at dksX3_breathSet_0 8 rfl rfl)
theorem dX3_breathSet_9 : decode cX3_breathSet 9 = .ok (.iconst 0, 1) := dk_3 (dk_at dksX3_breathSet_0 9 rfl rfl)
theorem dX3_breathSet_10 : decode cX3_breathSet 10 = .ok (.istore 4, 2) := dk_54 4 (dk_at dksX3_breathSet_0 10 rfl rfl)
theorem dX3_breathSet_12 : decode cX3_breathSet 12 = .ok (.iload 4, 2) := dk_21 4 (dk_at dksX3_breathSet_0 12 rfl rfl)
theorem dX3_breathSet_14 : decode cX3_breathSet 14 = .ok (.aload_n 0, 1) := dk_42 (dk_at dksX3_breathSet_0 14 rfl rfl)
theorem dX3_breathSet_15 : decode cX3_breathSet 15 = .ok (.getfield 24, 3) := dk_180 0 24 (dk_at dksX3_breathSet_0 15 rfl rfl)
theorem dX3_breathSet_18 : decode cX3_breathSet 18 = .ok (.if_icmp .ge 27, 3) := dk_162 0 27 (dk_at dksX3_breathSet_0 18 rfl rfl)
theorem dX3_breathSet_21 : decode cX3_breathSet 21 = .ok (.iload_n 2, 1) := dk_28 (dk_at dksX3_breathSet_0 21 rfl rfl)
theorem dX3_breathSet_22 : decode cX3_breathSet 22 = .ok (.aload_n 3, 1) := dk_45 (dk_at dksX3_breathSet_0 22 rfl rfl)
theorem dX3_breathSet_23 : decode cX3_breathSet 23 = .ok (.iload 4, 2) := dk_21 4 (dk_at dksX3_breathSet_1 0 rfl rfl)
theorem dX3_breathSet_25 : decode cX3_breathSet 25 = .ok (.baload, 1) := dk_51 (dk_at dksX3_breathSet_1 2 rfl rfl)
theorem dX3_breathSet_26 : decode cX3_breathSet 26 = .ok (.ifCond .eq 10, 3) := dk_153 0 10 (dk_at dksX3_breathSet_1 3 rfl rfl)
theorem dX3_breathSet_29 : decode cX3_breathSet 29 = .ok (.iconst 1, 1) := dk_4 (dk_at dksX3_breathSet_1 6 rfl rfl)
theorem dX3_breathSet_30 : decode cX3_breathSet 30 = .ok (.iload 4, 2) := dk_21 4 (dk_at dksX3_breathSet_1 7 rfl rfl)
theorem dX3_breathSet_32 : decode cX3_breathSet 32 = .ok (.ishl, 1) := dk_120 (dk_at dksX3_breathSet_1 9 rfl rfl)
theorem dX3_breathSet_33 : decode cX3_breathSet 33 = .ok (.goto 4, 3) := dk_167 0 4 (dk_at dksX3_breathSet_1 10 rfl rfl)
theorem dX3_breathSet_36 : decode cX3_breathSet 36 = .ok (.iconst 0, 1) := dk_3 (dk_at dksX3_breathSet_1 13 rfl rfl)
theorem dX3_breathSet_37 : decode cX3_breathSet 37 = .ok (.ior, 1) := dk_128 (dk_at dksX3_breathSet_1 14 rfl rfl)
theorem dX3_breathSet_38 : decode cX3_breathSet 38 = .ok (.istore_n 2, 1) := dk_61 (dk_at dksX3_breathSet_1 15 rfl rfl)
theorem dX3_breathSet_39 : decode cX3_breathSet 39 = .ok (.iinc 4 1, 3) := dk_132 4 1 (dk_at dksX3_breathSet_1 16 rfl rfl)
theorem dX3_breathSet_42 : decode cX3_breathSet 42 = .ok (.goto (-30), 3) := dk_167 255 226 (dk_at dksX3_breathSet_1 19 rfl rfl)
theorem dX3_breathSet_45 : decode cX3_breathSet 45 = .ok (.iload_n 2, 1) := dk_28 (dk_at dksX3_breathSet_1 22 rfl rfl)
theorem dX3_breathSet_46 : decode cX3_breathSet 46 = .ok (.ireturn, 1) := dk_172 (dk_at dksX3_breathSet_1 23 rfl rfl)
abbrev cX3_breathes : ByteArray := prog_12_method_18_code
def yX3_breathes : MethodName := ⟨RX3, "breathes", "()Z"⟩
def dkwX3_breathes_1 : List UInt8 := [42, 29, 182, 0, 115, 153, 0, 7, 4, 167, 0, 4, 3, 128, 60, 132, 3, 1, 167, 255, 223, 27, 172]
abbrev dktX3_breathes_1 : List UInt8 := dkwX3_breathes_1 ++ []
def dkwX3_breathes_0 : List UInt8 := [3, 60, 42, 182, 0, 111, 77, 3, 62, 29, 42, 180, 0, 24, 162, 0, 31, 27, 44, 29, 51, 153, 0, 15]
abbrev dktX3_breathes_0 : List UInt8 := dkwX3_breathes_0 ++ dktX3_breathes_1
theorem dksX3_breathes_0 : cX3_breathes.data.toList.drop 0 = dktX3_breathes_0 := by decide +kernel
theorem dksX3_breathes_1 : cX3_breathes.data.toList.drop 24 = dktX3_breathes_1 := dk_seg dksX3_breathes_0 24 rfl rfl
theorem dX3_breathes_0 : decode cX3_breathes 0 = .ok (.iconst 0, 1) := dk_3 (dk_at dksX3_breathes_0 0 rfl rfl)
theorem dX3_breathes_1 : decode cX3_breathes 1 = .ok (.istore_n 1, 1) := dk_60 (dk_at dksX3_breathes_0 1 rfl rfl)
theorem dX3_breathes_2 : decode cX3_breathes 2 = .ok (.aload_n 0, 1) := dk_42 (dk_at dksX3_breathes_0 2 rfl rfl)
theorem dX3_breathes_3 : decode cX3_breathes 3 = .ok (.invokevirtual 111, 3) := dk_182 0 111 (dk_at dksX3_breathes_0 3 rfl rfl)
theorem dX3_breathes_6 : decode cX3_breathes 6 = .ok (.astore_n 2, 1) := dk_77 (dk_at dksX3_breathes_0 6 rfl rfl)
theorem dX3_breathes_7 : decode cX3_breathes 7 = .ok (.iconst 0, 1) := dk_3 (dk_at dksX3_breathes_0 7 rfl rfl)
theorem dX3_breathes_8 : decode cX3_breathes 8 = .ok (.istore_n 3, 1) := dk_62 (dk_at dksX3_breathes_0 8 rfl rfl)
theorem dX3_breathes_9 : decode cX3_breathes 9 = .ok (.iload_n 3, 1) := dk_29 (dk_at dksX3_breathes_0 9 rfl rfl)
theorem dX3_breathes_10 : decode cX3_breathes 10 = .ok (.aload_n 0, 1) := dk_42 (dk_at dksX3_breathes_0 10 rfl rfl)
theorem dX3_breathes_11 : decode cX3_breathes 11 = .ok (.getfield 24, 3) := dk_180 0 24 (dk_at dksX3_breathes_0 11 rfl rfl)
theorem dX3_breathes_14 : decode cX3_breathes 14 = .ok (.if_icmp .ge 31, 3) := dk_162 0 31 (dk_at dksX3_breathes_0 14 rfl rfl)
theorem dX3_breathes_17 : decode cX3_breathes 17 = .ok (.iload_n 1, 1) := dk_27 (dk_at dksX3_breathes_0 17 rfl rfl)
theorem dX3_breathes_18 : decode cX3_breathes 18 = .ok (.aload_n 2, 1) := dk_44 (dk_at dksX3_breathes_0 18 rfl rfl)
theorem dX3_breathes_19 : decode cX3_breathes 19 = .ok (.iload_n 3, 1) := dk_29 (dk_at dksX3_breathes_0 19 rfl rfl)
theorem dX3_breathes_20 : decode cX3_breathes 20 = .ok (.baload, 1) := dk_51 (dk_at dksX3_breathes_0 20 rfl rfl)
theorem dX3_breathes_21 : decode cX3_breathes 21 = .ok (.ifCond .eq 15, 3) := dk_153 0 15 (dk_at dksX3_breathes_0 21 rfl rfl)
theorem dX3_breathes_24 : decode cX3_breathes 24 = .ok (.aload_n 0, 1) := dk_42 (dk_at dksX3_breathes_1 0 rfl rfl)
theorem dX3_breathes_25 : decode cX3_breathes 25 = .ok (.iload_n 3, 1) := dk_29 (dk_at dksX3_breathes_1 1 rfl rfl)
theorem dX3_breathes_26 : decode cX3_breathes 26 = .ok (.invokevirtual 115, 3) := dk_182 0 115 (dk_at dksX3_breathes_1 2 rfl rfl)
theorem dX3_breathes_29 : decode cX3_breathes 29 = .ok (.ifCond .eq 7, 3) := dk_153 0 7 (dk_at dksX3_breathes_1 5 rfl rfl)
theorem dX3_breathes_32 : decode cX3_breathes 32 = .ok (.iconst 1, 1) := dk_4 (dk_at dksX3_breathes_1 8 rfl rfl)
theorem dX3_breathes_33 : decode cX3_breathes 33 = .ok (.goto 4, 3) := dk_167 0 4 (dk_at dksX3_breathes_1 9 rfl rfl)
theorem dX3_breathes_36 : decode cX3_breathes 36 = .ok (.iconst 0, 1) := dk_3 (dk_at dksX3_breathes_1 12 rfl rfl)
theorem dX3_breathes_37 : decode cX3_breathes 37 = .ok (.ior, 1) := dk_128 (dk_at dksX3_breathes_1 13 rfl rfl)
theorem dX3_breathes_38 : decode cX3_breathes 38 = .ok (.istore_n 1, 1) := dk_60 (dk_at dksX3_breathes_1 14 rfl rfl)
theorem dX3_breathes_39 : decode cX3_breathes 39 = .ok (.iinc 3 1, 3) := dk_132 3 1 (dk_at dksX3_breathes_1 15 rfl rfl)
theorem dX3_breathes_42 : decode cX3_breathes 42 = .ok (.goto (-33), 3) := dk_167 255 223 (dk_at dksX3_breathes_1 18 rfl rfl)
theorem dX3_breathes_45 : decode cX3_breathes 45 = .ok (.iload_n 1, 1) := dk_27 (dk_at dksX3_breathes_1 21 rfl rfl)
theorem dX3_breathes_46 : decode cX3_breathes 46 = .ok (.ireturn, 1) := dk_172 (dk_at dksX3_breathes_1 22 rfl rfl)
abbrev cX3_comesBack : ByteArray := prog_12_method_17_code
def yX3_comesBack : MethodName := ⟨RX3, "comesBack", "(I)Z"⟩
def dkwX3_comesBack_3 : List UInt8 := [4, 160, 0, 7, 4, 167, 0, 4, 3, 128, 61, 167, 255, 190, 28, 172]
abbrev dktX3_comesBack_3 : List UInt8 := dkwX3_comesBack_3 ++ []
def dkwX3_comesBack_2 : List UInt8 := [185, 0, 96, 1, 0, 27, 160, 0, 26, 42, 25, 4, 185, 0, 99, 1, 0, 182, 0, 107, 27, 122, 4, 126]
abbrev dktX3_comesBack_2 : List UInt8 := dkwX3_comesBack_2 ++ dktX3_comesBack_3
def dkwX3_comesBack_1 : List UInt8 := [185, 0, 39, 1, 0, 192, 0, 43, 58, 4, 28, 25, 4, 193, 0, 105, 153, 0, 37, 25, 4]
abbrev dktX3_comesBack_1 : List UInt8 := dkwX3_comesBack_1 ++ dktX3_comesBack_2
def dkwX3_comesBack_0 : List UInt8 := [3, 61, 42, 180, 0, 14, 182, 0, 29, 78, 45, 185, 0, 33, 1, 0, 153, 0, 63, 45]
abbrev dktX3_comesBack_0 : List UInt8 := dkwX3_comesBack_0 ++ dktX3_comesBack_1
theorem dksX3_comesBack_0 : cX3_comesBack.data.toList.drop 0 = dktX3_comesBack_0 := by decide +kernel
theorem dksX3_comesBack_1 : cX3_comesBack.data.toList.drop 20 = dktX3_comesBack_1 := dk_seg dksX3_comesBack_0 20 rfl rfl
theorem dksX3_comesBack_2 : cX3_comesBack.data.toList.drop 41 = dktX3_comesBack_2 := dk_seg dksX3_comesBack_1 21 rfl rfl
theorem dksX3_comesBack_3 : cX3_comesBack.data.toList.drop 65 = dktX3_comesBack_3 := dk_seg dksX3_comesBack_2 24 rfl rfl
theorem dX3_comesBack_0 : decode cX3_comesBack 0 = .ok (.iconst 0, 1) := dk_3 (dk_at dksX3_comesBack_0 0 rfl rfl)
theorem dX3_comesBack_1 : decode cX3_comesBack 1 = .ok (.istore_n 2, 1) := dk_61 (dk_at dksX3_comesBack_0 1 rfl rfl)
theorem dX3_comesBack_2 : decode cX3_comesBack 2 = .ok (.aload_n 0, 1) := dk_42 (dk_at dksX3_comesBack_0 2 rfl rfl)
theorem dX3_comesBack_3 : decode cX3_comesBack 3 = .ok (.getfield 14, 3) := dk_180 0 14 (dk_at dksX3_comesBack_0 3 rfl rfl)
theorem dX3_comesBack_6 : decode cX3_comesBack 6 = .ok (.invokevirtual 29, 3) := dk_182 0 29 (dk_at dksX3_comesBack_0 6 rfl rfl)
theorem dX3_comesBack_9 : decode cX3_comesBack 9 = .ok (.astore_n 3, 1) := dk_78 (dk_at dksX3_comesBack_0 9 rfl rfl)
theorem dX3_comesBack_10 : decode cX3_comesBack 10 = .ok (.aload_n 3, 1) := dk_45 (dk_at dksX3_comesBack_0 10 rfl rfl)
theorem dX3_comesBack_11 : decode cX3_comesBack 11 = .ok (.invokeinterface 33 1, 5) := by decide +kernel
theorem dX3_comesBack_16 : decode cX3_comesBack 16 = .ok (.ifCond .eq 63, 3) := dk_153 0 63 (dk_at dksX3_comesBack_0 16 rfl rfl)
theorem dX3_comesBack_19 : decode cX3_comesBack 19 = .ok (.aload_n 3, 1) := dk_45 (dk_at dksX3_comesBack_0 19 rfl rfl)
theorem dX3_comesBack_20 : decode cX3_comesBack 20 = .ok (.invokeinterface 39 1, 5) := by decide +kernel
theorem dX3_comesBack_25 : decode cX3_comesBack 25 = .ok (.checkcast 43, 3) := dk_192 0 43 (dk_at dksX3_comesBack_1 5 rfl rfl)
theorem dX3_comesBack_28 : decode cX3_comesBack 28 = .ok (.astore 4, 2) := dk_58 4 (dk_at dksX3_comesBack_1 8 rfl rfl)
theorem dX3_comesBack_30 : decode cX3_comesBack 30 = .ok (.iload_n 2, 1) := dk_28 (dk_at dksX3_comesBack_1 10 rfl rfl)
theorem dX3_comesBack_31 : decode cX3_comesBack 31 = .ok (.aload 4, 2) := dk_25 4 (dk_at dksX3_comesBack_1 11 rfl rfl)
theorem dX3_comesBack_33 : decode cX3_comesBack 33 = .ok (.instanceof 105, 3) := dk_193 0 105 (dk_at dksX3_comesBack_1 13 rfl rfl)
theorem dX3_comesBack_36 : decode cX3_comesBack 36 = .ok (.ifCond .eq 37, 3) := dk_153 0 37 (dk_at dksX3_comesBack_1 16 rfl rfl)
theorem dX3_comesBack_39 : decode cX3_comesBack 39 = .ok (.aload 4, 2) := dk_25 4 (dk_at dksX3_comesBack_1 19 rfl rfl)
theorem dX3_comesBack_41 : decode cX3_comesBack 41 = .ok (.invokeinterface 96 1, 5) := by decide +kernel
theorem dX3_comesBack_46 : decode cX3_comesBack 46 = .ok (.iload_n 1, 1) := dk_27 (dk_at dksX3_comesBack_2 5 rfl rfl)
theorem dX3_comesBack_47 : decode cX3_comesBack 47 = .ok (.if_icmp .ne 26, 3) := dk_160 0 26 (dk_at dksX3_comesBack_2 6 rfl rfl)
theorem dX3_comesBack_50 : decode cX3_comesBack 50 = .ok (.aload_n 0, 1) := dk_42 (dk_at dksX3_comesBack_2 9 rfl rfl)
theorem dX3_comesBack_51 : decode cX3_comesBack 51 = .ok (.aload 4, 2) := dk_25 4 (dk_at dksX3_comesBack_2 10 rfl rfl)
theorem dX3_comesBack_53 : decode cX3_comesBack 53 = .ok (.invokeinterface 99 1, 5) := by decide +kernel
theorem dX3_comesBack_58 : decode cX3_comesBack 58 = .ok (.invokevirtual 107, 3) := dk_182 0 107 (dk_at dksX3_comesBack_2 17 rfl rfl)
theorem dX3_comesBack_61 : decode cX3_comesBack 61 = .ok (.iload_n 1, 1) := dk_27 (dk_at dksX3_comesBack_2 20 rfl rfl)
theorem dX3_comesBack_62 : decode cX3_comesBack 62 = .ok (.ishr, 1) := dk_122 (dk_at dksX3_comesBack_2 21 rfl rfl)
theorem dX3_comesBack_63 : decode cX3_comesBack 63 = .ok (.iconst 1, 1) := dk_4 (dk_at dksX3_comesBack_2 22 rfl rfl)
theorem dX3_comesBack_64 : decode cX3_comesBack 64 = .ok (.iand, 1) := dk_126 (dk_at dksX3_comesBack_2 23 rfl rfl)
theorem dX3_comesBack_65 : decode cX3_comesBack 65 = .ok (.iconst 1, 1) := dk_4 (dk_at dksX3_comesBack_3 0 rfl rfl)
theorem dX3_comesBack_66 : decode cX3_comesBack 66 = .ok (.if_icmp .ne 7, 3) := dk_160 0 7 (dk_at dksX3_comesBack_3 1 rfl rfl)
theorem dX3_comesBack_69 : decode cX3_comesBack 69 = .ok (.iconst 1, 1) := dk_4 (dk_at dksX3_comesBack_3 4 rfl rfl)
theorem dX3_comesBack_70 : decode cX3_comesBack 70 = .ok (.goto 4, 3) := dk_167 0 4 (dk_at dksX3_comesBack_3 5 rfl rfl)
theorem dX3_comesBack_73 : decode cX3_comesBack 73 = .ok (.iconst 0, 1) := dk_3 (dk_at dksX3_comesBack_3 8 rfl rfl)
theorem dX3_comesBack_74 : decode cX3_comesBack 74 = .ok (.ior, 1) := dk_128 (dk_at dksX3_comesBack_3 9 rfl rfl)
theorem dX3_comesBack_75 : decode cX3_comesBack 75 = .ok (.istore_n 2, 1) := dk_61 (dk_at dksX3_comesBack_3 10 rfl rfl)
theorem dX3_comesBack_76 : decode cX3_comesBack 76 = .ok (.goto (-66), 3) := dk_167 255 190 (dk_at dksX3_comesBack_3 11 rfl rfl)
theorem dX3_comesBack_79 : decode cX3_comesBack 79 = .ok (.iload_n 2, 1) := dk_28 (dk_at dksX3_comesBack_3 14 rfl rfl)
theorem dX3_comesBack_80 : decode cX3_comesBack 80 = .ok (.ireturn, 1) := dk_172 (dk_at dksX3_comesBack_3 15 rfl rfl)
abbrev cX3_ranked : ByteArray := prog_12_method_22_code
def yX3_ranked : MethodName := ⟨RX3, "ranked", "(I)I"⟩
def dkwX3_ranked_3 : List UInt8 := [167, 255, 188, 16, 245, 172]
abbrev dktX3_ranked_3 : List UInt8 := dkwX3_ranked_3 ++ []
def dkwX3_ranked_2 : List UInt8 := [167, 0, 4, 3, 96, 62, 132, 4, 1, 167, 255, 217, 29, 27, 160, 0, 5, 28, 172, 132, 2, 1]
abbrev dktX3_ranked_2 : List UInt8 := dkwX3_ranked_2 ++ dktX3_ranked_3
def dkwX3_ranked_1 : List UInt8 := [182, 0, 53, 162, 0, 33, 29, 21, 4, 28, 159, 0, 17, 42, 21, 4, 28, 182, 0, 128, 153, 0, 7, 4]
abbrev dktX3_ranked_1 : List UInt8 := dkwX3_ranked_1 ++ dktX3_ranked_2
def dkwX3_ranked_0 : List UInt8 := [3, 61, 28, 42, 180, 0, 14, 182, 0, 53, 162, 0, 63, 3, 62, 3, 54, 4, 21, 4, 42, 180, 0, 14]
abbrev dktX3_ranked_0 : List UInt8 := dkwX3_ranked_0 ++ dktX3_ranked_1
theorem dksX3_ranked_0 : cX3_ranked.data.toList.drop 0 = dktX3_ranked_0 := by decide +kernel
theorem dksX3_ranked_1 : cX3_ranked.data.toList.drop 24 = dktX3_ranked_1 := dk_seg dksX3_ranked_0 24 rfl rfl
theorem dksX3_ranked_2 : cX3_ranked.data.toList.drop 48 = dktX3_ranked_2 := dk_seg dksX3_ranked_1 24 rfl rfl
theorem dksX3_ranked_3 : cX3_ranked.data.toList.drop 70 = dktX3_ranked_3 := dk_seg dksX3_ranked_2 22 rfl rfl
theorem dX3_ranked_0 : decode cX3_ranked 0 = .ok (.iconst 0, 1) := dk_3 (dk_at dksX3_ranked_0 0 rfl rfl)
theorem dX3_ranked_1 : decode cX3_ranked 1 = .ok (.istore_n 2, 1) := dk_61 (dk_at dksX3_ranked_0 1 rfl rfl)
theorem dX3_ranked_2 : decode cX3_ranked 2 = .ok (.iload_n 2, 1) := dk_28 (dk_at dksX3_ranked_0 2 rfl rfl)
theorem dX3_ranked_3 : decode cX3_ranked 3 = .ok (.aload_n 0, 1) := dk_42 (dk_at dksX3_ranked_0 3 rfl rfl)
theorem dX3_ranked_4 : decode cX3_ranked 4 = .ok (.getfield 14, 3) := dk_180 0 14 (dk_at dksX3_ranked_0 4 rfl rfl)
theorem dX3_ranked_7 : decode cX3_ranked 7 = .ok (.invokevirtual 53, 3) := dk_182 0 53 (dk_at dksX3_ranked_0 7 rfl rfl)
theorem dX3_ranked_10 : decode cX3_ranked 10 = .ok (.if_icmp .ge 63, 3) := dk_162 0 63 (dk_at dksX3_ranked_0 10 rfl rfl)
theorem dX3_ranked_13 : decode cX3_ranked 13 = .ok (.iconst 0, 1) := dk_3 (dk_at dksX3_ranked_0 13 rfl rfl)
theorem dX3_ranked_14 : decode cX3_ranked 14 = .ok (.istore_n 3, 1) := dk_62 (dk_at dksX3_ranked_0 14 rfl rfl)
theorem dX3_ranked_15 : decode cX3_ranked 15 = .ok (.iconst 0, 1) := dk_3 (dk_at dksX3_ranked_0 15 rfl rfl)
theorem dX3_ranked_16 : decode cX3_ranked 16 = .ok (.istore 4, 2) := dk_54 4 (dk_at dksX3_ranked_0 16 rfl rfl)
theorem dX3_ranked_18 : decode cX3_ranked 18 = .ok (.iload 4, 2) := dk_21 4 (dk_at dksX3_ranked_0 18 rfl rfl)
theorem dX3_ranked_20 : decode cX3_ranked 20 = .ok (.aload_n 0, 1) := dk_42 (dk_at dksX3_ranked_0 20 rfl rfl)
theorem dX3_ranked_21 : decode cX3_ranked 21 = .ok (.getfield 14, 3) := dk_180 0 14 (dk_at dksX3_ranked_0 21 rfl rfl)
theorem dX3_ranked_24 : decode cX3_ranked 24 = .ok (.invokevirtual 53, 3) := dk_182 0 53 (dk_at dksX3_ranked_1 0 rfl rfl)
theorem dX3_ranked_27 : decode cX3_ranked 27 = .ok (.if_icmp .ge 33, 3) := dk_162 0 33 (dk_at dksX3_ranked_1 3 rfl rfl)
theorem dX3_ranked_30 : decode cX3_ranked 30 = .ok (.iload_n 3, 1) := dk_29 (dk_at dksX3_ranked_1 6 rfl rfl)
theorem dX3_ranked_31 : decode cX3_ranked 31 = .ok (.iload 4, 2) := dk_21 4 (dk_at dksX3_ranked_1 7 rfl rfl)
theorem dX3_ranked_33 : decode cX3_ranked 33 = .ok (.iload_n 2, 1) := dk_28 (dk_at dksX3_ranked_1 9 rfl rfl)
theorem dX3_ranked_34 : decode cX3_ranked 34 = .ok (.if_icmp .eq 17, 3) := dk_159 0 17 (dk_at dksX3_ranked_1 10 rfl rfl)
theorem dX3_ranked_37 : decode cX3_ranked 37 = .ok (.aload_n 0, 1) := dk_42 (dk_at dksX3_ranked_1 13 rfl rfl)
theorem dX3_ranked_38 : decode cX3_ranked 38 = .ok (.iload 4, 2) := dk_21 4 (dk_at dksX3_ranked_1 14 rfl rfl)
theorem dX3_ranked_40 : decode cX3_ranked 40 = .ok (.iload_n 2, 1) := dk_28 (dk_at dksX3_ranked_1 16 rfl rfl)
theorem dX3_ranked_41 : decode cX3_ranked 41 = .ok (.invokevirtual 128, 3) := dk_182 0 128 (dk_at dksX3_ranked_1 17 rfl rfl)
theorem dX3_ranked_44 : decode cX3_ranked 44 = .ok (.ifCond .eq 7, 3) := dk_153 0 7 (dk_at dksX3_ranked_1 20 rfl rfl)
theorem dX3_ranked_47 : decode cX3_ranked 47 = .ok (.iconst 1, 1) := dk_4 (dk_at dksX3_ranked_1 23 rfl rfl)
theorem dX3_ranked_48 : decode cX3_ranked 48 = .ok (.goto 4, 3) := dk_167 0 4 (dk_at dksX3_ranked_2 0 rfl rfl)
theorem dX3_ranked_51 : decode cX3_ranked 51 = .ok (.iconst 0, 1) := dk_3 (dk_at dksX3_ranked_2 3 rfl rfl)
theorem dX3_ranked_52 : decode cX3_ranked 52 = .ok (.iadd, 1) := dk_96 (dk_at dksX3_ranked_2 4 rfl rfl)
theorem dX3_ranked_53 : decode cX3_ranked 53 = .ok (.istore_n 3, 1) := dk_62 (dk_at dksX3_ranked_2 5 rfl rfl)
theorem dX3_ranked_54 : decode cX3_ranked 54 = .ok (.iinc 4 1, 3) := dk_132 4 1 (dk_at dksX3_ranked_2 6 rfl rfl)
theorem dX3_ranked_57 : decode cX3_ranked 57 = .ok (.goto (-39), 3) := dk_167 255 217 (dk_at dksX3_ranked_2 9 rfl rfl)
theorem dX3_ranked_60 : decode cX3_ranked 60 = .ok (.iload_n 3, 1) := dk_29 (dk_at dksX3_ranked_2 12 rfl rfl)
theorem dX3_ranked_61 : decode cX3_ranked 61 = .ok (.iload_n 1, 1) := dk_27 (dk_at dksX3_ranked_2 13 rfl rfl)
theorem dX3_ranked_62 : decode cX3_ranked 62 = .ok (.if_icmp .ne 5, 3) := dk_160 0 5 (dk_at dksX3_ranked_2 14 rfl rfl)
theorem dX3_ranked_65 : decode cX3_ranked 65 = .ok (.iload_n 2, 1) := dk_28 (dk_at dksX3_ranked_2 17 rfl rfl)
theorem dX3_ranked_66 : decode cX3_ranked 66 = .ok (.ireturn, 1) := dk_172 (dk_at dksX3_ranked_2 18 rfl rfl)
theorem dX3_ranked_67 : decode cX3_ranked 67 = .ok (.iinc 2 1, 3) := dk_132 2 1 (dk_at dksX3_ranked_2 19 rfl rfl)
theorem dX3_ranked_70 : decode cX3_ranked 70 = .ok (.goto (-68), 3) := dk_167 255 188 (dk_at dksX3_ranked_3 0 rfl rfl)
theorem dX3_ranked_73 : decode cX3_ranked 73 = .ok (.bipush (-11), 2) := dk_16 245 (dk_at dksX3_ranked_3 3 rfl rfl)
theorem dX3_ranked_75 : decode cX3_ranked 75 = .ok (.ireturn, 1) := dk_172 (dk_at dksX3_ranked_3 5 rfl rfl)
abbrev cX3_isAhead : ByteArray := prog_12_method_21_code
def yX3_isAhead : MethodName := ⟨RX3, "isAhead", "(II)Z"⟩
def dkwX3_isAhead_6 : List UInt8 := [28, 162, 0, 7, 4, 167, 0, 4, 3, 172]
abbrev dktX3_isAhead_6 : List UInt8 := dkwX3_isAhead_6 ++ []
def dkwX3_isAhead_5 : List UInt8 := [185, 0, 99, 1, 0, 25, 4, 185, 0, 99, 1, 0, 162, 0, 7, 4, 167, 0, 17, 3, 167, 0, 13, 27]
abbrev dktX3_isAhead_5 : List UInt8 := dkwX3_isAhead_5 ++ dktX3_isAhead_6
def dkwX3_isAhead_4 : List UInt8 := [4, 167, 0, 4, 3, 172, 45, 185, 0, 99, 1, 0, 25, 4, 185, 0, 99, 1, 0, 159, 0, 27, 45]
abbrev dktX3_isAhead_4 : List UInt8 := dkwX3_isAhead_4 ++ dktX3_isAhead_5
def dkwX3_isAhead_3 : List UInt8 := [185, 0, 96, 1, 0, 159, 0, 25, 45, 185, 0, 96, 1, 0, 25, 4, 185, 0, 96, 1, 0, 162, 0, 7]
abbrev dktX3_isAhead_3 : List UInt8 := dkwX3_isAhead_3 ++ dktX3_isAhead_4
def dkwX3_isAhead_2 : List UInt8 := [25, 4, 185, 0, 72, 1, 0, 164, 0, 7, 4, 167, 0, 4, 3, 172, 45, 185, 0, 96, 1, 0, 25, 4]
abbrev dktX3_isAhead_2 : List UInt8 := dkwX3_isAhead_2 ++ dktX3_isAhead_3
def dkwX3_isAhead_1 : List UInt8 := [58, 4, 45, 185, 0, 72, 1, 0, 25, 4, 185, 0, 72, 1, 0, 159, 0, 25, 45, 185, 0, 72, 1, 0]
abbrev dktX3_isAhead_1 : List UInt8 := dkwX3_isAhead_1 ++ dktX3_isAhead_2
def dkwX3_isAhead_0 : List UInt8 := [42, 180, 0, 14, 27, 182, 0, 64, 192, 0, 43, 78, 42, 180, 0, 14, 28, 182, 0, 64, 192, 0, 43]
abbrev dktX3_isAhead_0 : List UInt8 := dkwX3_isAhead_0 ++ dktX3_isAhead_1
theorem dksX3_isAhead_0 : cX3_isAhead.data.toList.drop 0 = dktX3_isAhead_0 := by decide +kernel
theorem dksX3_isAhead_1 : cX3_isAhead.data.toList.drop 23 = dktX3_isAhead_1 := dk_seg dksX3_isAhead_0 23 rfl rfl
theorem dksX3_isAhead_2 : cX3_isAhead.data.toList.drop 47 = dktX3_isAhead_2 := dk_seg dksX3_isAhead_1 24 rfl rfl
theorem dksX3_isAhead_3 : cX3_isAhead.data.toList.drop 71 = dktX3_isAhead_3 := dk_seg dksX3_isAhead_2 24 rfl rfl
theorem dksX3_isAhead_4 : cX3_isAhead.data.toList.drop 95 = dktX3_isAhead_4 := dk_seg dksX3_isAhead_3 24 rfl rfl
theorem dksX3_isAhead_5 : cX3_isAhead.data.toList.drop 118 = dktX3_isAhead_5 := dk_seg dksX3_isAhead_4 23 rfl rfl
theorem dksX3_isAhead_6 : cX3_isAhead.data.toList.drop 142 = dktX3_isAhead_6 := dk_seg dksX3_isAhead_5 24 rfl rfl
theorem dX3_isAhead_0 : decode cX3_isAhead 0 = .ok (.aload_n 0, 1) := dk_42 (dk_at dksX3_isAhead_0 0 rfl rfl)
theorem dX3_isAhead_1 : decode cX3_isAhead 1 = .ok (.getfield 14, 3) := dk_180 0 14 (dk_at dksX3_isAhead_0 1 rfl rfl)
theorem dX3_isAhead_4 : decode cX3_isAhead 4 = .ok (.iload_n 1, 1) := dk_27 (dk_at dksX3_isAhead_0 4 rfl rfl)
theorem dX3_isAhead_5 : decode cX3_isAhead 5 = .ok (.invokevirtual 64, 3) := dk_182 0 64 (dk_at dksX3_isAhead_0 5 rfl rfl)
theorem dX3_isAhead_8 : decode cX3_isAhead 8 = .ok (.checkcast 43, 3) := dk_192 0 43 (dk_at dksX3_isAhead_0 8 rfl rfl)
theorem dX3_isAhead_11 : decode cX3_isAhead 11 = .ok (.astore_n 3, 1) := dk_78 (dk_at dksX3_isAhead_0 11 rfl rfl)
theorem dX3_isAhead_12 : decode cX3_isAhead 12 = .ok (.aload_n 0, 1) := dk_42 (dk_at dksX3_isAhead_0 12 rfl rfl)
theorem dX3_isAhead_13 : decode cX3_isAhead 13 = .ok (.getfield 14, 3) := dk_180 0 14 (dk_at dksX3_isAhead_0 13 rfl rfl)
theorem dX3_isAhead_16 : decode cX3_isAhead 16 = .ok (.iload_n 2, 1) := dk_28 (dk_at dksX3_isAhead_0 16 rfl rfl)
theorem dX3_isAhead_17 : decode cX3_isAhead 17 = .ok (.invokevirtual 64, 3) := dk_182 0 64 (dk_at dksX3_isAhead_0 17 rfl rfl)
theorem dX3_isAhead_20 : decode cX3_isAhead 20 = .ok (.checkcast 43, 3) := dk_192 0 43 (dk_at dksX3_isAhead_0 20 rfl rfl)
theorem dX3_isAhead_23 : decode cX3_isAhead 23 = .ok (.astore 4, 2) := dk_58 4 (dk_at dksX3_isAhead_1 0 rfl rfl)
theorem dX3_isAhead_25 : decode cX3_isAhead 25 = .ok (.aload_n 3, 1) := dk_45 (dk_at dksX3_isAhead_1 2 rfl rfl)
theorem dX3_isAhead_26 : decode cX3_isAhead 26 = .ok (.invokeinterface 72 1, 5) := by decide +kernel
theorem dX3_isAhead_31 : decode cX3_isAhead 31 = .ok (.aload 4, 2) := dk_25 4 (dk_at dksX3_isAhead_1 8 rfl rfl)
theorem dX3_isAhead_33 : decode cX3_isAhead 33 = .ok (.invokeinterface 72 1, 5) := by decide +kernel
theorem dX3_isAhead_38 : decode cX3_isAhead 38 = .ok (.if_icmp .eq 25, 3) := dk_159 0 25 (dk_at dksX3_isAhead_1 15 rfl rfl)
theorem dX3_isAhead_41 : decode cX3_isAhead 41 = .ok (.aload_n 3, 1) := dk_45 (dk_at dksX3_isAhead_1 18 rfl rfl)
theorem dX3_isAhead_42 : decode cX3_isAhead 42 = .ok (.invokeinterface 72 1, 5) := by decide +kernel
theorem dX3_isAhead_47 : decode cX3_isAhead 47 = .ok (.aload 4, 2) := dk_25 4 (dk_at dksX3_isAhead_2 0 rfl rfl)
theorem dX3_isAhead_49 : decode cX3_isAhead 49 = .ok (.invokeinterface 72 1, 5) := by decide +kernel
theorem dX3_isAhead_54 : decode cX3_isAhead 54 = .ok (.if_icmp .le 7, 3) := dk_164 0 7 (dk_at dksX3_isAhead_2 7 rfl rfl)
theorem dX3_isAhead_57 : decode cX3_isAhead 57 = .ok (.iconst 1, 1) := dk_4 (dk_at dksX3_isAhead_2 10 rfl rfl)
theorem dX3_isAhead_58 : decode cX3_isAhead 58 = .ok (.goto 4, 3) := dk_167 0 4 (dk_at dksX3_isAhead_2 11 rfl rfl)
theorem dX3_isAhead_61 : decode cX3_isAhead 61 = .ok (.iconst 0, 1) := dk_3 (dk_at dksX3_isAhead_2 14 rfl rfl)
theorem dX3_isAhead_62 : decode cX3_isAhead 62 = .ok (.ireturn, 1) := dk_172 (dk_at dksX3_isAhead_2 15 rfl rfl)
theorem dX3_isAhead_63 : decode cX3_isAhead 63 = .ok (.aload_n 3, 1) := dk_45 (dk_at dksX3_isAhead_2 16 rfl rfl)
theorem dX3_isAhead_64 : decode cX3_isAhead 64 = .ok (.invokeinterface 96 1, 5) := by decide +kernel
theorem dX3_isAhead_69 : decode cX3_isAhead 69 = .ok (.aload 4, 2) := dk_25 4 (dk_at dksX3_isAhead_2 22 rfl rfl)
theorem dX3_isAhead_71 : decode cX3_isAhead 71 = .ok (.invokeinterface 96 1, 5) := by decide +kernel
theorem dX3_isAhead_76 : decode cX3_isAhead 76 = .ok (.if_icmp .eq 25, 3) := dk_159 0 25 (dk_at dksX3_isAhead_3 5 rfl rfl)
theorem dX3_isAhead_79 : decode cX3_isAhead 79 = .ok (.aload_n 3, 1) := dk_45 (dk_at dksX3_isAhead_3 8 rfl rfl)
theorem dX3_isAhead_80 : decode cX3_isAhead 80 = .ok (.invokeinterface 96 1, 5) := by decide +kernel
theorem dX3_isAhead_85 : decode cX3_isAhead 85 = .ok (.aload 4, 2) := dk_25 4 (dk_at dksX3_isAhead_3 14 rfl rfl)
theorem dX3_isAhead_87 : decode cX3_isAhead 87 = .ok (.invokeinterface 96 1, 5) := by decide +kernel
theorem dX3_isAhead_92 : decode cX3_isAhead 92 = .ok (.if_icmp .ge 7, 3) := dk_162 0 7 (dk_at dksX3_isAhead_3 21 rfl rfl)
theorem dX3_isAhead_95 : decode cX3_isAhead 95 = .ok (.iconst 1, 1) := dk_4 (dk_at dksX3_isAhead_4 0 rfl rfl)
theorem dX3_isAhead_96 : decode cX3_isAhead 96 = .ok (.goto 4, 3) := dk_167 0 4 (dk_at dksX3_isAhead_4 1 rfl rfl)
theorem dX3_isAhead_99 : decode cX3_isAhead 99 = .ok (.iconst 0, 1) := dk_3 (dk_at dksX3_isAhead_4 4 rfl rfl)
theorem dX3_isAhead_100 : decode cX3_isAhead 100 = .ok (.ireturn, 1) := dk_172 (dk_at dksX3_isAhead_4 5 rfl rfl)
theorem dX3_isAhead_101 : decode cX3_isAhead 101 = .ok (.aload_n 3, 1) := dk_45 (dk_at dksX3_isAhead_4 6 rfl rfl)
theorem dX3_isAhead_102 : decode cX3_isAhead 102 = .ok (.invokeinterface 99 1, 5) := by decide +kernel
theorem dX3_isAhead_107 : decode cX3_isAhead 107 = .ok (.aload 4, 2) := dk_25 4 (dk_at dksX3_isAhead_4 12 rfl rfl)
theorem dX3_isAhead_109 : decode cX3_isAhead 109 = .ok (.invokeinterface 99 1, 5) := by decide +kernel
theorem dX3_isAhead_114 : decode cX3_isAhead 114 = .ok (.if_icmp .eq 27, 3) := dk_159 0 27 (dk_at dksX3_isAhead_4 19 rfl rfl)
theorem dX3_isAhead_117 : decode cX3_isAhead 117 = .ok (.aload_n 3, 1) := dk_45 (dk_at dksX3_isAhead_4 22 rfl rfl)
theorem dX3_isAhead_118 : decode cX3_isAhead 118 = .ok (.invokeinterface 99 1, 5) := by decide +kernel
theorem dX3_isAhead_123 : decode cX3_isAhead 123 = .ok (.aload 4, 2) := dk_25 4 (dk_at dksX3_isAhead_5 5 rfl rfl)
theorem dX3_isAhead_125 : decode cX3_isAhead 125 = .ok (.invokeinterface 99 1, 5) := by decide +kernel
theorem dX3_isAhead_130 : decode cX3_isAhead 130 = .ok (.if_icmp .ge 7, 3) := dk_162 0 7 (dk_at dksX3_isAhead_5 12 rfl rfl)
theorem dX3_isAhead_133 : decode cX3_isAhead 133 = .ok (.iconst 1, 1) := dk_4 (dk_at dksX3_isAhead_5 15 rfl rfl)
theorem dX3_isAhead_134 : decode cX3_isAhead 134 = .ok (.goto 17, 3) := dk_167 0 17 (dk_at dksX3_isAhead_5 16 rfl rfl)
theorem dX3_isAhead_137 : decode cX3_isAhead 137 = .ok (.iconst 0, 1) := dk_3 (dk_at dksX3_isAhead_5 19 rfl rfl)
theorem dX3_isAhead_138 : decode cX3_isAhead 138 = .ok (.goto 13, 3) := dk_167 0 13 (dk_at dksX3_isAhead_5 20 rfl rfl)
theorem dX3_isAhead_141 : decode cX3_isAhead 141 = .ok (.iload_n 1, 1) := dk_27 (dk_at dksX3_isAhead_5 23 rfl rfl)
theorem dX3_isAhead_142 : decode cX3_isAhead 142 = .ok (.iload_n 2, 1) := dk_28 (dk_at dksX3_isAhead_6 0 rfl rfl)
theorem dX3_isAhead_143 : decode cX3_isAhead 143 = .ok (.if_icmp .ge 7, 3) := dk_162 0 7 (dk_at dksX3_isAhead_6 1 rfl rfl)
theorem dX3_isAhead_146 : decode cX3_isAhead 146 = .ok (.iconst 1, 1) := dk_4 (dk_at dksX3_isAhead_6 4 rfl rfl)
theorem dX3_isAhead_147 : decode cX3_isAhead 147 = .ok (.goto 4, 3) := dk_167 0 4 (dk_at dksX3_isAhead_6 5 rfl rfl)
theorem dX3_isAhead_150 : decode cX3_isAhead 150 = .ok (.iconst 0, 1) := dk_3 (dk_at dksX3_isAhead_6 8 rfl rfl)
theorem dX3_isAhead_151 : decode cX3_isAhead 151 = .ok (.ireturn, 1) := dk_172 (dk_at dksX3_isAhead_6 9 rfl rfl)
abbrev cX3_text : ByteArray := prog_12_method_25_code
def yX3_text : MethodName := ⟨RX3, "text", "()Ljava/lang/String;"⟩
def dkwX3_text_4 : List UInt8 := [182, 0, 156, 182, 0, 145, 87, 132, 3, 1, 167, 255, 165, 43, 182, 0, 156, 176]
abbrev dktX3_text_4 : List UInt8 := dkwX3_text_4 ++ []
def dkwX3_text_3 : List UInt8 := [167, 0, 27, 187, 0, 138, 89, 183, 0, 140, 18, 154, 182, 0, 145, 42, 180, 0, 20, 29, 46, 182, 0, 149]
abbrev dktX3_text_3 : List UInt8 := dkwX3_text_3 ++ dktX3_text_4
def dkwX3_text_2 : List UInt8 := [18, 152, 167, 0, 5, 18, 143, 182, 0, 145, 87, 43, 42, 180, 0, 20, 29, 46, 2, 160, 0, 8, 18, 143]
abbrev dktX3_text_2 : List UInt8 := dkwX3_text_2 ++ dktX3_text_3
def dkwX3_text_1 : List UInt8 := [29, 158, 0, 8, 18, 141, 167, 0, 5, 18, 143, 182, 0, 145, 29, 182, 0, 149, 44, 29, 51, 153, 0, 8]
abbrev dktX3_text_1 : List UInt8 := dkwX3_text_1 ++ dktX3_text_2
def dkwX3_text_0 : List UInt8 := [187, 0, 138, 89, 183, 0, 140, 76, 42, 182, 0, 111, 77, 3, 62, 29, 42, 180, 0, 24, 162, 0, 89, 43]
abbrev dktX3_text_0 : List UInt8 := dkwX3_text_0 ++ dktX3_text_1
theorem dksX3_text_0 : cX3_text.data.toList.drop 0 = dktX3_text_0 := by decide +kernel
theorem dksX3_text_1 : cX3_text.data.toList.drop 24 = dktX3_text_1 := dk_seg dksX3_text_0 24 rfl rfl
theorem dksX3_text_2 : cX3_text.data.toList.drop 48 = dktX3_text_2 := dk_seg dksX3_text_1 24 rfl rfl
theorem dksX3_text_3 : cX3_text.data.toList.drop 72 = dktX3_text_3 := dk_seg dksX3_text_2 24 rfl rfl
theorem dksX3_text_4 : cX3_text.data.toList.drop 96 = dktX3_text_4 := dk_seg dksX3_text_3 24 rfl rfl
theorem dX3_text_0 : decode cX3_text 0 = .ok (.new 138, 3) := dk_187 0 138 (dk_at dksX3_text_0 0 rfl rfl)
theorem dX3_text_3 : decode cX3_text 3 = .ok (.dup, 1) := dk_89 (dk_at dksX3_text_0 3 rfl rfl)
theorem dX3_text_4 : decode cX3_text 4 = .ok (.invokespecial 140, 3) := dk_183 0 140 (dk_at dksX3_text_0 4 rfl rfl)
theorem dX3_text_7 : decode cX3_text 7 = .ok (.astore_n 1, 1) := dk_76 (dk_at dksX3_text_0 7 rfl rfl)
theorem dX3_text_8 : decode cX3_text 8 = .ok (.aload_n 0, 1) := dk_42 (dk_at dksX3_text_0 8 rfl rfl)
theorem dX3_text_9 : decode cX3_text 9 = .ok (.invokevirtual 111, 3) := dk_182 0 111 (dk_at dksX3_text_0 9 rfl rfl)
theorem dX3_text_12 : decode cX3_text 12 = .ok (.astore_n 2, 1) := dk_77 (dk_at dksX3_text_0 12 rfl rfl)
theorem dX3_text_13 : decode cX3_text 13 = .ok (.iconst 0, 1) := dk_3 (dk_at dksX3_text_0 13 rfl rfl)
theorem dX3_text_14 : decode cX3_text 14 = .ok (.istore_n 3, 1) := dk_62 (dk_at dksX3_text_0 14 rfl rfl)
theorem dX3_text_15 : decode cX3_text 15 = .ok (.iload_n 3, 1) := dk_29 (dk_at dksX3_text_0 15 rfl rfl)
theorem dX3_text_16 : decode cX3_text 16 = .ok (.aload_n 0, 1) := dk_42 (dk_at dksX3_text_0 16 rfl rfl)
theorem dX3_text_17 : decode cX3_text 17 = .ok (.getfield 24, 3) := dk_180 0 24 (dk_at dksX3_text_0 17 rfl rfl)
theorem dX3_text_20 : decode cX3_text 20 = .ok (.if_icmp .ge 89, 3) := dk_162 0 89 (dk_at dksX3_text_0 20 rfl rfl)
theorem dX3_text_23 : decode cX3_text 23 = .ok (.aload_n 1, 1) := dk_43 (dk_at dksX3_text_0 23 rfl rfl)
theorem dX3_text_24 : decode cX3_text 24 = .ok (.iload_n 3, 1) := dk_29 (dk_at dksX3_text_1 0 rfl rfl)
theorem dX3_text_25 : decode cX3_text 25 = .ok (.ifCond .le 8, 3) := dk_158 0 8 (dk_at dksX3_text_1 1 rfl rfl)
theorem dX3_text_28 : decode cX3_text 28 = .ok (.ldc 141, 2) := dk_18 141 (dk_at dksX3_text_1 4 rfl rfl)
theorem dX3_text_30 : decode cX3_text 30 = .ok (.goto 5, 3) := dk_167 0 5 (dk_at dksX3_text_1 6 rfl rfl)
theorem dX3_text_33 : decode cX3_text 33 = .ok (.ldc 143, 2) := dk_18 143 (dk_at dksX3_text_1 9 rfl rfl)
theorem dX3_text_35 : decode cX3_text 35 = .ok (.invokevirtual 145, 3) := dk_182 0 145 (dk_at dksX3_text_1 11 rfl rfl)
theorem dX3_text_38 : decode cX3_text 38 = .ok (.iload_n 3, 1) := dk_29 (dk_at dksX3_text_1 14 rfl rfl)
theorem dX3_text_39 : decode cX3_text 39 = .ok (.invokevirtual 149, 3) := dk_182 0 149 (dk_at dksX3_text_1 15 rfl rfl)
theorem dX3_text_42 : decode cX3_text 42 = .ok (.aload_n 2, 1) := dk_44 (dk_at dksX3_text_1 18 rfl rfl)
theorem dX3_text_43 : decode cX3_text 43 = .ok (.iload_n 3, 1) := dk_29 (dk_at dksX3_text_1 19 rfl rfl)
theorem dX3_text_44 : decode cX3_text 44 = .ok (.baload, 1) := dk_51 (dk_at dksX3_text_1 20 rfl rfl)
theorem dX3_text_45 : decode cX3_text 45 = .ok (.ifCond .eq 8, 3) := dk_153 0 8 (dk_at dksX3_text_1 21 rfl rfl)
theorem dX3_text_48 : decode cX3_text 48 = .ok (.ldc 152, 2) := dk_18 152 (dk_at dksX3_text_2 0 rfl rfl)
theorem dX3_text_50 : decode cX3_text 50 = .ok (.goto 5, 3) := dk_167 0 5 (dk_at dksX3_text_2 2 rfl rfl)
theorem dX3_text_53 : decode cX3_text 53 = .ok (.ldc 143, 2) := dk_18 143 (dk_at dksX3_text_2 5 rfl rfl)
theorem dX3_text_55 : decode cX3_text 55 = .ok (.invokevirtual 145, 3) := dk_182 0 145 (dk_at dksX3_text_2 7 rfl rfl)
theorem dX3_text_58 : decode cX3_text 58 = .ok (.pop, 1) := dk_87 (dk_at dksX3_text_2 10 rfl rfl)
theorem dX3_text_59 : decode cX3_text 59 = .ok (.aload_n 1, 1) := dk_43 (dk_at dksX3_text_2 11 rfl rfl)
theorem dX3_text_60 : decode cX3_text 60 = .ok (.aload_n 0, 1) := dk_42 (dk_at dksX3_text_2 12 rfl rfl)
theorem dX3_text_61 : decode cX3_text 61 = .ok (.getfield 20, 3) := dk_180 0 20 (dk_at dksX3_text_2 13 rfl rfl)
theorem dX3_text_64 : decode cX3_text 64 = .ok (.iload_n 3, 1) := dk_29 (dk_at dksX3_text_2 16 rfl rfl)
theorem dX3_text_65 : decode cX3_text 65 = .ok (.iaload, 1) := dk_46 (dk_at dksX3_text_2 17 rfl rfl)
theorem dX3_text_66 : decode cX3_text 66 = .ok (.iconst (-1), 1) := dk_2 (dk_at dksX3_text_2 18 rfl rfl)
theorem dX3_text_67 : decode cX3_text 67 = .ok (.if_icmp .ne 8, 3) := dk_160 0 8 (dk_at dksX3_text_2 19 rfl rfl)
theorem dX3_text_70 : decode cX3_text 70 = .ok (.ldc 143, 2) := dk_18 143 (dk_at dksX3_text_2 22 rfl rfl)
theorem dX3_text_72 : decode cX3_text 72 = .ok (.goto 27, 3) := dk_167 0 27 (dk_at dksX3_text_3 0 rfl rfl)
theorem dX3_text_75 : decode cX3_text 75 = .ok (.new 138, 3) := dk_187 0 138 (dk_at dksX3_text_3 3 rfl rfl)
theorem dX3_text_78 : decode cX3_text 78 = .ok (.dup, 1) := dk_89 (dk_at dksX3_text_3 6 rfl rfl)
theorem dX3_text_79 : decode cX3_text 79 = .ok (.invokespecial 140, 3) := dk_183 0 140 (dk_at dksX3_text_3 7 rfl rfl)
theorem dX3_text_82 : decode cX3_text 82 = .ok (.ldc 154, 2) := dk_18 154 (dk_at dksX3_text_3 10 rfl rfl)
theorem dX3_text_84 : decode cX3_text 84 = .ok (.invokevirtual 145, 3) := dk_182 0 145 (dk_at dksX3_text_3 12 rfl rfl)
theorem dX3_text_87 : decode cX3_text 87 = .ok (.aload_n 0, 1) := dk_42 (dk_at dksX3_text_3 15 rfl rfl)
theorem dX3_text_88 : decode cX3_text 88 = .ok (.getfield 20, 3) := dk_180 0 20 (dk_at dksX3_text_3 16 rfl rfl)
theorem dX3_text_91 : decode cX3_text 91 = .ok (.iload_n 3, 1) := dk_29 (dk_at dksX3_text_3 19 rfl rfl)
theorem dX3_text_92 : decode cX3_text 92 = .ok (.iaload, 1) := dk_46 (dk_at dksX3_text_3 20 rfl rfl)
theorem dX3_text_93 : decode cX3_text 93 = .ok (.invokevirtual 149, 3) := dk_182 0 149 (dk_at dksX3_text_3 21 rfl rfl)
theorem dX3_text_96 : decode cX3_text 96 = .ok (.invokevirtual 156, 3) := dk_182 0 156 (dk_at dksX3_text_4 0 rfl rfl)
theorem dX3_text_99 : decode cX3_text 99 = .ok (.invokevirtual 145, 3) := dk_182 0 145 (dk_at dksX3_text_4 3 rfl rfl)
theorem dX3_text_102 : decode cX3_text 102 = .ok (.pop, 1) := dk_87 (dk_at dksX3_text_4 6 rfl rfl)
theorem dX3_text_103 : decode cX3_text 103 = .ok (.iinc 3 1, 3) := dk_132 3 1 (dk_at dksX3_text_4 7 rfl rfl)
theorem dX3_text_106 : decode cX3_text 106 = .ok (.goto (-91), 3) := dk_167 255 165 (dk_at dksX3_text_4 10 rfl rfl)
theorem dX3_text_109 : decode cX3_text 109 = .ok (.aload_n 1, 1) := dk_43 (dk_at dksX3_text_4 13 rfl rfl)
theorem dX3_text_110 : decode cX3_text 110 = .ok (.invokevirtual 156, 3) := dk_182 0 156 (dk_at dksX3_text_4 14 rfl rfl)
theorem dX3_text_113 : decode cX3_text 113 = .ok (.areturn, 1) := dk_176 (dk_at dksX3_text_4 17 rfl rfl)
abbrev cX3_weights : ByteArray := prog_12_method_23_code
def yX3_weights : MethodName := ⟨RX3, "weights", "()I"⟩
def dkwX3_weights_1 : List UInt8 := [185, 0, 39, 1, 0, 192, 0, 43, 78, 27, 45, 185, 0, 72, 1, 0, 96, 60, 167, 255, 228, 27, 172]
abbrev dktX3_weights_1 : List UInt8 := dkwX3_weights_1 ++ []
def dkwX3_weights_0 : List UInt8 := [3, 60, 42, 180, 0, 14, 182, 0, 29, 77, 44, 185, 0, 33, 1, 0, 153, 0, 25, 44]
abbrev dktX3_weights_0 : List UInt8 := dkwX3_weights_0 ++ dktX3_weights_1
theorem dksX3_weights_0 : cX3_weights.data.toList.drop 0 = dktX3_weights_0 := by decide +kernel
theorem dksX3_weights_1 : cX3_weights.data.toList.drop 20 = dktX3_weights_1 := dk_seg dksX3_weights_0 20 rfl rfl
theorem dX3_weights_0 : decode cX3_weights 0 = .ok (.iconst 0, 1) := dk_3 (dk_at dksX3_weights_0 0 rfl rfl)
theorem dX3_weights_1 : decode cX3_weights 1 = .ok (.istore_n 1, 1) := dk_60 (dk_at dksX3_weights_0 1 rfl rfl)
theorem dX3_weights_2 : decode cX3_weights 2 = .ok (.aload_n 0, 1) := dk_42 (dk_at dksX3_weights_0 2 rfl rfl)
theorem dX3_weights_3 : decode cX3_weights 3 = .ok (.getfield 14, 3) := dk_180 0 14 (dk_at dksX3_weights_0 3 rfl rfl)
theorem dX3_weights_6 : decode cX3_weights 6 = .ok (.invokevirtual 29, 3) := dk_182 0 29 (dk_at dksX3_weights_0 6 rfl rfl)
theorem dX3_weights_9 : decode cX3_weights 9 = .ok (.astore_n 2, 1) := dk_77 (dk_at dksX3_weights_0 9 rfl rfl)
theorem dX3_weights_10 : decode cX3_weights 10 = .ok (.aload_n 2, 1) := dk_44 (dk_at dksX3_weights_0 10 rfl rfl)
theorem dX3_weights_11 : decode cX3_weights 11 = .ok (.invokeinterface 33 1, 5) := by decide +kernel
theorem dX3_weights_16 : decode cX3_weights 16 = .ok (.ifCond .eq 25, 3) := dk_153 0 25 (dk_at dksX3_weights_0 16 rfl rfl)
theorem dX3_weights_19 : decode cX3_weights 19 = .ok (.aload_n 2, 1) := dk_44 (dk_at dksX3_weights_0 19 rfl rfl)
theorem dX3_weights_20 : decode cX3_weights 20 = .ok (.invokeinterface 39 1, 5) := by decide +kernel
theorem dX3_weights_25 : decode cX3_weights 25 = .ok (.checkcast 43, 3) := dk_192 0 43 (dk_at dksX3_weights_1 5 rfl rfl)
theorem dX3_weights_28 : decode cX3_weights 28 = .ok (.astore_n 3, 1) := dk_78 (dk_at dksX3_weights_1 8 rfl rfl)
theorem dX3_weights_29 : decode cX3_weights 29 = .ok (.iload_n 1, 1) := dk_27 (dk_at dksX3_weights_1 9 rfl rfl)
theorem dX3_weights_30 : decode cX3_weights 30 = .ok (.aload_n 3, 1) := dk_45 (dk_at dksX3_weights_1 10 rfl rfl)
theorem dX3_weights_31 : decode cX3_weights 31 = .ok (.invokeinterface 72 1, 5) := by decide +kernel
theorem dX3_weights_36 : decode cX3_weights 36 = .ok (.iadd, 1) := dk_96 (dk_at dksX3_weights_1 16 rfl rfl)
theorem dX3_weights_37 : decode cX3_weights 37 = .ok (.istore_n 1, 1) := dk_60 (dk_at dksX3_weights_1 17 rfl rfl)
theorem dX3_weights_38 : decode cX3_weights 38 = .ok (.goto (-28), 3) := dk_167 255 228 (dk_at dksX3_weights_1 18 rfl rfl)
theorem dX3_weights_41 : decode cX3_weights 41 = .ok (.iload_n 1, 1) := dk_27 (dk_at dksX3_weights_1 21 rfl rfl)
theorem dX3_weights_42 : decode cX3_weights 42 = .ok (.ireturn, 1) := dk_172 (dk_at dksX3_weights_1 22 rfl rfl)
abbrev cX3_so : ByteArray := prog_12_method_24_code
def yX3_so : MethodName := ⟨RX3, "so", "(LChantRules$Test;)I"⟩
def dkwX3_so_2 : List UInt8 := [167, 0, 4, 3, 96, 61, 167, 255, 217, 28, 172]
abbrev dktX3_so_2 : List UInt8 := dkwX3_so_2 ++ []
def dkwX3_so_1 : List UInt8 := [185, 0, 39, 1, 0, 192, 0, 43, 58, 4, 28, 43, 25, 4, 185, 0, 132, 2, 0, 153, 0, 7, 4]
abbrev dktX3_so_1 : List UInt8 := dkwX3_so_1 ++ dktX3_so_2
def dkwX3_so_0 : List UInt8 := [3, 61, 42, 180, 0, 14, 182, 0, 29, 78, 45, 185, 0, 33, 1, 0, 153, 0, 36, 45]
abbrev dktX3_so_0 : List UInt8 := dkwX3_so_0 ++ dktX3_so_1
theorem dksX3_so_0 : cX3_so.data.toList.drop 0 = dktX3_so_0 := by decide +kernel
theorem dksX3_so_1 : cX3_so.data.toList.drop 20 = dktX3_so_1 := dk_seg dksX3_so_0 20 rfl rfl
theorem dksX3_so_2 : cX3_so.data.toList.drop 43 = dktX3_so_2 := dk_seg dksX3_so_1 23 rfl rfl
theorem dX3_so_0 : decode cX3_so 0 = .ok (.iconst 0, 1) := dk_3 (dk_at dksX3_so_0 0 rfl rfl)
theorem dX3_so_1 : decode cX3_so 1 = .ok (.istore_n 2, 1) := dk_61 (dk_at dksX3_so_0 1 rfl rfl)
theorem dX3_so_2 : decode cX3_so 2 = .ok (.aload_n 0, 1) := dk_42 (dk_at dksX3_so_0 2 rfl rfl)
theorem dX3_so_3 : decode cX3_so 3 = .ok (.getfield 14, 3) := dk_180 0 14 (dk_at dksX3_so_0 3 rfl rfl)
theorem dX3_so_6 : decode cX3_so 6 = .ok (.invokevirtual 29, 3) := dk_182 0 29 (dk_at dksX3_so_0 6 rfl rfl)
theorem dX3_so_9 : decode cX3_so 9 = .ok (.astore_n 3, 1) := dk_78 (dk_at dksX3_so_0 9 rfl rfl)
theorem dX3_so_10 : decode cX3_so 10 = .ok (.aload_n 3, 1) := dk_45 (dk_at dksX3_so_0 10 rfl rfl)
theorem dX3_so_11 : decode cX3_so 11 = .ok (.invokeinterface 33 1, 5) := by decide +kernel
theorem dX3_so_16 : decode cX3_so 16 = .ok (.ifCond .eq 36, 3) := dk_153 0 36 (dk_at dksX3_so_0 16 rfl rfl)
theorem dX3_so_19 : decode cX3_so 19 = .ok (.aload_n 3, 1) := dk_45 (dk_at dksX3_so_0 19 rfl rfl)
theorem dX3_so_20 : decode cX3_so 20 = .ok (.invokeinterface 39 1, 5) := by decide +kernel
theorem dX3_so_25 : decode cX3_so 25 = .ok (.checkcast 43, 3) := dk_192 0 43 (dk_at dksX3_so_1 5 rfl rfl)
theorem dX3_so_28 : decode cX3_so 28 = .ok (.astore 4, 2) := dk_58 4 (dk_at dksX3_so_1 8 rfl rfl)
theorem dX3_so_30 : decode cX3_so 30 = .ok (.iload_n 2, 1) := dk_28 (dk_at dksX3_so_1 10 rfl rfl)
theorem dX3_so_31 : decode cX3_so 31 = .ok (.aload_n 1, 1) := dk_43 (dk_at dksX3_so_1 11 rfl rfl)
theorem dX3_so_32 : decode cX3_so 32 = .ok (.aload 4, 2) := dk_25 4 (dk_at dksX3_so_1 12 rfl rfl)
theorem dX3_so_34 : decode cX3_so 34 = .ok (.invokeinterface 132 2, 5) := by decide +kernel
theorem dX3_so_39 : decode cX3_so 39 = .ok (.ifCond .eq 7, 3) := dk_153 0 7 (dk_at dksX3_so_1 19 rfl rfl)
theorem dX3_so_42 : decode cX3_so 42 = .ok (.iconst 1, 1) := dk_4 (dk_at dksX3_so_1 22 rfl rfl)
theorem dX3_so_43 : decode cX3_so 43 = .ok (.goto 4, 3) := dk_167 0 4 (dk_at dksX3_so_2 0 rfl rfl)
theorem dX3_so_46 : decode cX3_so 46 = .ok (.iconst 0, 1) := dk_3 (dk_at dksX3_so_2 3 rfl rfl)
theorem dX3_so_47 : decode cX3_so 47 = .ok (.iadd, 1) := dk_96 (dk_at dksX3_so_2 4 rfl rfl)
theorem dX3_so_48 : decode cX3_so 48 = .ok (.istore_n 2, 1) := dk_61 (dk_at dksX3_so_2 5 rfl rfl)
theorem dX3_so_49 : decode cX3_so 49 = .ok (.goto (-39), 3) := dk_167 255 217 (dk_at dksX3_so_2 6 rfl rfl)
theorem dX3_so_52 : decode cX3_so 52 = .ok (.iload_n 2, 1) := dk_28 (dk_at dksX3_so_2 9 rfl rfl)
theorem dX3_so_53 : decode cX3_so 53 = .ok (.ireturn, 1) := dk_172 (dk_at dksX3_so_2 10 rfl rfl)
theorem q79 : (Jvm.Cond.initialized "ChantRules$Rule") ∈ lw_all := lw_g (lw_at lw_m1 4 rfl) rfl
theorem q134 : (Jvm.Cond.instantiable "ChantRules$Rule" (3 : Nat)) ∈ lw_all := lw_g (lw_at lw_m1 59 rfl) rfl
theorem q136 : (Jvm.Cond.instanceMethod ({ cls := "ChantRules$Rule", name := "<init>", desc := "()V" } : Jvm.MethodName)) ∈ lw_all := lw_g (lw_at lw_m1 61 rfl) rfl
theorem q137 : (Jvm.Cond.code ({ cls := "ChantRules$Rule", name := "<init>", desc := "()V" } : Jvm.MethodName) prog_12_method_1_code (2 : Nat) (Option.none : Option Jvm.ClassFile.FieldType)) ∈ lw_all := lw_g (lw_at lw_m1 62 rfl) rfl
theorem q138 : (Jvm.Cond.methodLinkNest "ChantRules$Rule" (3 : Nat) ({ cls := "ChantRules$Machine", name := "<init>", desc := "()V" } : Jvm.MethodName) "ChantRules") ∈ lw_tbl := lw_at lw_m1 63 rfl
theorem q142 : (Jvm.Cond.classLink "ChantRules$Rule" (9 : Nat) "java/util/ArrayList") ∈ lw_all := lw_g (lw_at lw_m1 67 rfl) rfl
theorem q144 : (Jvm.Cond.methodLink "ChantRules$Rule" (11 : Nat) ({ cls := "java/util/ArrayList", name := "<init>", desc := "(I)V" } : Jvm.MethodName)) ∈ lw_all := lw_g (lw_at lw_m1 69 rfl) rfl
theorem q175 : (Jvm.Cond.fieldLink "ChantRules$Rule" (14 : Nat) "ChantRules$Rule" "arcs" "Ljava/util/ArrayList;") ∈ lw_all := lw_g (lw_at lw_m1 100 rfl) rfl
theorem q179 : (Jvm.Cond.fieldLink "ChantRules$Rule" (20 : Nat) "ChantRules$Rule" "ends" "[I") ∈ lw_all := lw_g (lw_at lw_m1 104 rfl) rfl
theorem q180 : (Jvm.Cond.fieldLink "ChantRules$Rule" (24 : Nat) "ChantRules$Rule" "states" "I") ∈ lw_all := lw_g (lw_at lw_m1 105 rfl) rfl
theorem q184 : (Jvm.Cond.laysFinal "ChantRules$Rule" "ChantRules$Rule" "arcs" "Ljava/util/ArrayList;") ∈ lw_all := lw_g (lw_at lw_m1 109 rfl) rfl
theorem q185 : (Jvm.Cond.soleField "ChantRules$Rule" "arcs") ∈ lw_all := lw_g (lw_at lw_m1 110 rfl) rfl
theorem q186 : (Jvm.Cond.laysFinal "ChantRules$Rule" "ChantRules$Rule" "ends" "[I") ∈ lw_all := lw_g (lw_at lw_m1 111 rfl) rfl
theorem q187 : (Jvm.Cond.soleField "ChantRules$Rule" "ends") ∈ lw_all := lw_g (lw_at lw_m1 112 rfl) rfl
theorem q188 : (Jvm.Cond.lays "ChantRules$Rule" "ChantRules$Rule" "states" "I") ∈ lw_all := lw_g (lw_at lw_m1 113 rfl) rfl
theorem q189 : (Jvm.Cond.soleField "ChantRules$Rule" "states") ∈ lw_all := lw_g (lw_at lw_m1 114 rfl) rfl
theorem q190 : (Jvm.Cond.superclass "ChantRules$Rule" "ChantRules$Machine") ∈ lw_all := lw_g (lw_at lw_m1 115 rfl) rfl
theorem q349 : (Jvm.Cond.instanceMethod ({ cls := "ChantRules$Rule", name := "copy", desc := "()LChantRules$Rule;" } : Jvm.MethodName)) ∈ lw_all := lw_g (lw_at lw_m2 34 rfl) rfl
theorem q350 : (Jvm.Cond.selects "ChantRules$Rule" ({ cls := "ChantRules$Rule", name := "copy", desc := "()LChantRules$Rule;" } : Jvm.MethodName) ({ cls := "ChantRules$Rule", name := "copy", desc := "()LChantRules$Rule;" } : Jvm.MethodName)) ∈ lw_all := lw_g (lw_at lw_m2 35 rfl) rfl
theorem q351 : (Jvm.Cond.code ({ cls := "ChantRules$Rule", name := "copy", desc := "()LChantRules$Rule;" } : Jvm.MethodName) prog_12_method_2_code (4 : Nat) (Option.some (Jvm.ClassFile.FieldType.object "ChantRules$Rule"))) ∈ lw_all := lw_g (lw_at lw_m2 36 rfl) rfl
theorem q352 : (Jvm.Cond.classLink "ChantRules$Rule" (15 : Nat) "ChantRules$Rule") ∈ lw_all := lw_g (lw_at lw_m2 37 rfl) rfl
theorem q353 : (Jvm.Cond.methodLink "ChantRules$Rule" (28 : Nat) ({ cls := "ChantRules$Rule", name := "<init>", desc := "()V" } : Jvm.MethodName)) ∈ lw_all := lw_g (lw_at lw_m2 38 rfl) rfl
theorem q354 : (Jvm.Cond.methodLink "ChantRules$Rule" (29 : Nat) ({ cls := "java/util/ArrayList", name := "iterator", desc := "()Ljava/util/Iterator;" } : Jvm.MethodName)) ∈ lw_all := lw_g (lw_at lw_m2 39 rfl) rfl
theorem q377 : (Jvm.Cond.interfaceEntry "ChantRules$Rule" (33 : Nat)) ∈ lw_tbl := lw_at lw_m2 62 rfl
theorem q378 : (Jvm.Cond.methodLink "ChantRules$Rule" (33 : Nat) ({ cls := "java/util/Iterator", name := "hasNext", desc := "()Z" } : Jvm.MethodName)) ∈ lw_all := lw_g (lw_at lw_m2 63 rfl) rfl
theorem q387 : (Jvm.Cond.interfaceEntry "ChantRules$Rule" (39 : Nat)) ∈ lw_tbl := lw_at lw_m2 72 rfl
theorem q388 : (Jvm.Cond.methodLink "ChantRules$Rule" (39 : Nat) ({ cls := "java/util/Iterator", name := "next", desc := "()Ljava/lang/Object;" } : Jvm.MethodName)) ∈ lw_all := lw_g (lw_at lw_m2 73 rfl) rfl
theorem q400 : (Jvm.Cond.classLink "ChantRules$Rule" (43 : Nat) "ChantRules$Arc") ∈ lw_all := lw_g (lw_at lw_m2 85 rfl) rfl
theorem q401 : (Jvm.Cond.methodLink "ChantRules$Rule" (45 : Nat) ({ cls := "java/util/ArrayList", name := "add", desc := "(Ljava/lang/Object;)Z" } : Jvm.MethodName)) ∈ lw_all := lw_g (lw_at lw_m2 86 rfl) rfl
theorem q444 : (Jvm.Cond.selects "ChantRules$Rule" ({ cls := "java/lang/Object", name := "getClass", desc := "()Ljava/lang/Class;" } : Jvm.MethodName) ({ cls := "java/lang/Object", name := "getClass", desc := "()Ljava/lang/Class;" } : Jvm.MethodName)) ∈ lw_all := lw_g (lw_at lw_m2 129 rfl) rfl
theorem q471 : (Jvm.Cond.instanceMethod ({ cls := "ChantRules$Rule", name := "tells", desc := "()I" } : Jvm.MethodName)) ∈ lw_all := lw_g (lw_at lw_m2 156 rfl) rfl
theorem q472 : (Jvm.Cond.selects "ChantRules$Rule" ({ cls := "ChantRules$Rule", name := "tells", desc := "()I" } : Jvm.MethodName) ({ cls := "ChantRules$Rule", name := "tells", desc := "()I" } : Jvm.MethodName)) ∈ lw_all := lw_g (lw_at lw_m2 157 rfl) rfl
theorem q473 : (Jvm.Cond.code ({ cls := "ChantRules$Rule", name := "tells", desc := "()I" } : Jvm.MethodName) prog_12_method_9_code (1 : Nat) (Option.some Jvm.ClassFile.FieldType.int)) ∈ lw_all := lw_g (lw_at lw_m2 158 rfl) rfl
theorem q474 : (Jvm.Cond.methodLinkNest "ChantRules$Rule" (57 : Nat) ({ cls := "ChantRules", name := "refuse", desc := "(ZII)V" } : Jvm.MethodName) "ChantRules") ∈ lw_tbl := lw_at lw_m2 159 rfl
theorem q608 : (Jvm.Cond.instanceMethod ({ cls := "ChantRules$Rule", name := "isState", desc := "(I)Z" } : Jvm.MethodName)) ∈ lw_all := lw_g (lw_at lw_m3 53 rfl) rfl
theorem q609 : (Jvm.Cond.selects "ChantRules$Rule" ({ cls := "ChantRules$Rule", name := "isState", desc := "(I)Z" } : Jvm.MethodName) ({ cls := "ChantRules$Rule", name := "isState", desc := "(I)Z" } : Jvm.MethodName)) ∈ lw_all := lw_g (lw_at lw_m3 54 rfl) rfl
theorem q610 : (Jvm.Cond.code ({ cls := "ChantRules$Rule", name := "isState", desc := "(I)Z" } : Jvm.MethodName) prog_12_method_6_code (2 : Nat) (Option.some Jvm.ClassFile.FieldType.boolean)) ∈ lw_all := lw_g (lw_at lw_m3 55 rfl) rfl
theorem q611 : (Jvm.Cond.methodLinkNest "ChantRules$Rule" (49 : Nat) ({ cls := "ChantRules", name := "isIn", desc := "(III)Z" } : Jvm.MethodName) "ChantRules") ∈ lw_tbl := lw_at lw_m3 56 rfl
theorem q616 : (Jvm.Cond.instanceMethod ({ cls := "ChantRules$Rule", name := "ends", desc := "(II)I" } : Jvm.MethodName)) ∈ lw_all := lw_g (lw_at lw_m3 61 rfl) rfl
theorem q617 : (Jvm.Cond.selects "ChantRules$Rule" ({ cls := "ChantRules$Rule", name := "ends", desc := "(II)I" } : Jvm.MethodName) ({ cls := "ChantRules$Rule", name := "ends", desc := "(II)I" } : Jvm.MethodName)) ∈ lw_all := lw_g (lw_at lw_m3 62 rfl) rfl
theorem q618 : (Jvm.Cond.code ({ cls := "ChantRules$Rule", name := "ends", desc := "(II)I" } : Jvm.MethodName) prog_12_method_10_code (3 : Nat) (Option.some Jvm.ClassFile.FieldType.int)) ∈ lw_all := lw_g (lw_at lw_m3 63 rfl) rfl
theorem q619 : (Jvm.Cond.methodLink "ChantRules$Rule" (61 : Nat) ({ cls := "ChantRules$Rule", name := "endMany", desc := "()I" } : Jvm.MethodName)) ∈ lw_all := lw_g (lw_at lw_m3 64 rfl) rfl
theorem q620 : (Jvm.Cond.instanceMethod ({ cls := "ChantRules$Rule", name := "endMany", desc := "()I" } : Jvm.MethodName)) ∈ lw_all := lw_g (lw_at lw_m3 65 rfl) rfl
theorem q621 : (Jvm.Cond.selects "ChantRules$Rule" ({ cls := "ChantRules$Rule", name := "endMany", desc := "()I" } : Jvm.MethodName) ({ cls := "ChantRules$Rule", name := "endMany", desc := "()I" } : Jvm.MethodName)) ∈ lw_all := lw_g (lw_at lw_m3 66 rfl) rfl
theorem q622 : (Jvm.Cond.code ({ cls := "ChantRules$Rule", name := "endMany", desc := "()I" } : Jvm.MethodName) prog_12_method_8_code (3 : Nat) (Option.some Jvm.ClassFile.FieldType.int)) ∈ lw_all := lw_g (lw_at lw_m3 67 rfl) rfl
theorem q685 : (Jvm.Cond.instanceMethod ({ cls := "ChantRules$Rule", name := "tells", desc := "(LChantRules$Arc;)I" } : Jvm.MethodName)) ∈ lw_all := lw_g (lw_at lw_m3 130 rfl) rfl
theorem q686 : (Jvm.Cond.selects "ChantRules$Rule" ({ cls := "ChantRules$Rule", name := "tells", desc := "(LChantRules$Arc;)I" } : Jvm.MethodName) ({ cls := "ChantRules$Rule", name := "tells", desc := "(LChantRules$Arc;)I" } : Jvm.MethodName)) ∈ lw_all := lw_g (lw_at lw_m3 131 rfl) rfl
theorem q687 : (Jvm.Cond.code ({ cls := "ChantRules$Rule", name := "tells", desc := "(LChantRules$Arc;)I" } : Jvm.MethodName) prog_12_method_11_code (3 : Nat) (Option.some Jvm.ClassFile.FieldType.int)) ∈ lw_all := lw_g (lw_at lw_m3 132 rfl) rfl
theorem q688 : (Jvm.Cond.methodLink "ChantRules$Rule" (53 : Nat) ({ cls := "java/util/ArrayList", name := "size", desc := "()I" } : Jvm.MethodName)) ∈ lw_all := lw_g (lw_at lw_m3 133 rfl) rfl
theorem q692 : (Jvm.Cond.methodLink "ChantRules$Rule" (64 : Nat) ({ cls := "java/util/ArrayList", name := "get", desc := "(I)Ljava/lang/Object;" } : Jvm.MethodName)) ∈ lw_all := lw_g (lw_at lw_m3 137 rfl) rfl
theorem q706 : (Jvm.Cond.methodLinkNest "ChantRules$Rule" (68 : Nat) ({ cls := "ChantRules", name := "areAlike", desc := "(LChantRules$Arc;LChantRules$Arc;)Z" } : Jvm.MethodName) "ChantRules") ∈ lw_tbl := lw_at lw_m3 151 rfl
theorem q760 : (Jvm.Cond.instanceMethod ({ cls := "ChantRules$Rule", name := "isArc", desc := "(I)Z" } : Jvm.MethodName)) ∈ lw_all := lw_g (lw_at lw_m3 205 rfl) rfl
theorem q761 : (Jvm.Cond.selects "ChantRules$Rule" ({ cls := "ChantRules$Rule", name := "isArc", desc := "(I)Z" } : Jvm.MethodName) ({ cls := "ChantRules$Rule", name := "isArc", desc := "(I)Z" } : Jvm.MethodName)) ∈ lw_all := lw_g (lw_at lw_m3 206 rfl) rfl
theorem q762 : (Jvm.Cond.code ({ cls := "ChantRules$Rule", name := "isArc", desc := "(I)Z" } : Jvm.MethodName) prog_12_method_7_code (2 : Nat) (Option.some Jvm.ClassFile.FieldType.boolean)) ∈ lw_all := lw_g (lw_at lw_m3 207 rfl) rfl
theorem q764 : (Jvm.Cond.instanceMethod ({ cls := "ChantRules$Rule", name := "weighs", desc := "(II)I" } : Jvm.MethodName)) ∈ lw_all := lw_g (lw_at lw_m3 209 rfl) rfl
theorem q765 : (Jvm.Cond.selects "ChantRules$Rule" ({ cls := "ChantRules$Rule", name := "weighs", desc := "(II)I" } : Jvm.MethodName) ({ cls := "ChantRules$Rule", name := "weighs", desc := "(II)I" } : Jvm.MethodName)) ∈ lw_all := lw_g (lw_at lw_m3 210 rfl) rfl
theorem q766 : (Jvm.Cond.code ({ cls := "ChantRules$Rule", name := "weighs", desc := "(II)I" } : Jvm.MethodName) prog_12_method_12_code (5 : Nat) (Option.some Jvm.ClassFile.FieldType.int)) ∈ lw_all := lw_g (lw_at lw_m3 211 rfl) rfl
theorem q767 : (Jvm.Cond.interfaceEntry "ChantRules$Rule" (72 : Nat)) ∈ lw_tbl := lw_at lw_m3 212 rfl
theorem q768 : (Jvm.Cond.methodLink "ChantRules$Rule" (72 : Nat) ({ cls := "ChantRules$Arc", name := "weight", desc := "()I" } : Jvm.MethodName)) ∈ lw_all := lw_g (lw_at lw_m3 213 rfl) rfl
theorem q781 : (Jvm.Cond.methodLinkNest "ChantRules$Rule" (75 : Nat) ({ cls := "ChantRules", name := "weighed", desc := "(LChantRules$Arc;I)LChantRules$Arc;" } : Jvm.MethodName) "ChantRules") ∈ lw_tbl := lw_at lw_m3 226 rfl
theorem q784 : (Jvm.Cond.methodLink "ChantRules$Rule" (79 : Nat) ({ cls := "java/util/ArrayList", name := "set", desc := "(ILjava/lang/Object;)Ljava/lang/Object;" } : Jvm.MethodName)) ∈ lw_all := lw_g (lw_at lw_m3 229 rfl) rfl
theorem q797 : (Jvm.Cond.instanceMethod ({ cls := "ChantRules$Rule", name := "drops", desc := "(I)I" } : Jvm.MethodName)) ∈ lw_all := lw_g (lw_at lw_m4 2 rfl) rfl
theorem q798 : (Jvm.Cond.selects "ChantRules$Rule" ({ cls := "ChantRules$Rule", name := "drops", desc := "(I)I" } : Jvm.MethodName) ({ cls := "ChantRules$Rule", name := "drops", desc := "(I)I" } : Jvm.MethodName)) ∈ lw_all := lw_g (lw_at lw_m4 3 rfl) rfl
theorem q799 : (Jvm.Cond.code ({ cls := "ChantRules$Rule", name := "drops", desc := "(I)I" } : Jvm.MethodName) prog_12_method_13_code (4 : Nat) (Option.some Jvm.ClassFile.FieldType.int)) ∈ lw_all := lw_g (lw_at lw_m4 4 rfl) rfl
theorem q800 : (Jvm.Cond.methodLink "ChantRules$Rule" (83 : Nat) ({ cls := "java/util/ArrayList", name := "remove", desc := "(I)Ljava/lang/Object;" } : Jvm.MethodName)) ∈ lw_all := lw_g (lw_at lw_m4 5 rfl) rfl
theorem q818 : (Jvm.Cond.instanceMethod ({ cls := "ChantRules$Rule", name := "turns", desc := "()I" } : Jvm.MethodName)) ∈ lw_all := lw_g (lw_at lw_m4 23 rfl) rfl
theorem q819 : (Jvm.Cond.selects "ChantRules$Rule" ({ cls := "ChantRules$Rule", name := "turns", desc := "()I" } : Jvm.MethodName) ({ cls := "ChantRules$Rule", name := "turns", desc := "()I" } : Jvm.MethodName)) ∈ lw_all := lw_g (lw_at lw_m4 24 rfl) rfl
theorem q820 : (Jvm.Cond.code ({ cls := "ChantRules$Rule", name := "turns", desc := "()I" } : Jvm.MethodName) prog_12_method_14_code (4 : Nat) (Option.some Jvm.ClassFile.FieldType.int)) ∈ lw_all := lw_g (lw_at lw_m4 25 rfl) rfl
theorem q821 : (Jvm.Cond.interfaceEntry "ChantRules$Rule" (86 : Nat)) ∈ lw_tbl := lw_at lw_m4 26 rfl
theorem q822 : (Jvm.Cond.methodLink "ChantRules$Rule" (86 : Nat) ({ cls := "ChantRules$Arc", name := "hears", desc := "()I" } : Jvm.MethodName)) ∈ lw_all := lw_g (lw_at lw_m4 27 rfl) rfl
theorem q823 : (Jvm.Cond.interfaceEntry "ChantRules$Rule" (89 : Nat)) ∈ lw_tbl := lw_at lw_m4 28 rfl
theorem q824 : (Jvm.Cond.methodLink "ChantRules$Rule" (89 : Nat) ({ cls := "ChantRules$Arc", name := "sings", desc := "()I" } : Jvm.MethodName)) ∈ lw_all := lw_g (lw_at lw_m4 29 rfl) rfl
theorem q825 : (Jvm.Cond.methodLinkNest "ChantRules$Rule" (92 : Nat) ({ cls := "ChantRules", name := "turned", desc := "(LChantRules$Arc;)LChantRules$Arc;" } : Jvm.MethodName) "ChantRules") ∈ lw_tbl := lw_at lw_m4 30 rfl
theorem q835 : (Jvm.Cond.instanceMethod ({ cls := "ChantRules$Rule", name := "ofArc", desc := "(II)I" } : Jvm.MethodName)) ∈ lw_all := lw_g (lw_at lw_m4 40 rfl) rfl
theorem q836 : (Jvm.Cond.selects "ChantRules$Rule" ({ cls := "ChantRules$Rule", name := "ofArc", desc := "(II)I" } : Jvm.MethodName) ({ cls := "ChantRules$Rule", name := "ofArc", desc := "(II)I" } : Jvm.MethodName)) ∈ lw_all := lw_g (lw_at lw_m4 41 rfl) rfl
theorem q837 : (Jvm.Cond.code ({ cls := "ChantRules$Rule", name := "ofArc", desc := "(II)I" } : Jvm.MethodName) prog_12_method_20_code (4 : Nat) (Option.some Jvm.ClassFile.FieldType.int)) ∈ lw_all := lw_g (lw_at lw_m4 42 rfl) rfl
theorem q838 : (Jvm.Cond.interfaceEntry "ChantRules$Rule" (96 : Nat)) ∈ lw_tbl := lw_at lw_m4 43 rfl
theorem q839 : (Jvm.Cond.methodLink "ChantRules$Rule" (96 : Nat) ({ cls := "ChantRules$Arc", name := "from", desc := "()I" } : Jvm.MethodName)) ∈ lw_all := lw_g (lw_at lw_m4 44 rfl) rfl
theorem q840 : (Jvm.Cond.interfaceEntry "ChantRules$Rule" (99 : Nat)) ∈ lw_tbl := lw_at lw_m4 45 rfl
theorem q841 : (Jvm.Cond.methodLink "ChantRules$Rule" (99 : Nat) ({ cls := "ChantRules$Arc", name := "to", desc := "()I" } : Jvm.MethodName)) ∈ lw_all := lw_g (lw_at lw_m4 46 rfl) rfl
theorem q847 : (Jvm.Cond.instanceMethod ({ cls := "ChantRules$Rule", name := "ofState", desc := "(II)I" } : Jvm.MethodName)) ∈ lw_all := lw_g (lw_at lw_m4 52 rfl) rfl
theorem q848 : (Jvm.Cond.selects "ChantRules$Rule" ({ cls := "ChantRules$Rule", name := "ofState", desc := "(II)I" } : Jvm.MethodName) ({ cls := "ChantRules$Rule", name := "ofState", desc := "(II)I" } : Jvm.MethodName)) ∈ lw_all := lw_g (lw_at lw_m4 53 rfl) rfl
theorem q849 : (Jvm.Cond.code ({ cls := "ChantRules$Rule", name := "ofState", desc := "(II)I" } : Jvm.MethodName) prog_12_method_19_code (3 : Nat) (Option.some Jvm.ClassFile.FieldType.int)) ∈ lw_all := lw_g (lw_at lw_m4 54 rfl) rfl
theorem q850 : (Jvm.Cond.methodLink "ChantRules$Rule" (119 : Nat) ({ cls := "ChantRules$Rule", name := "arcsAt", desc := "(IZ)I" } : Jvm.MethodName)) ∈ lw_all := lw_g (lw_at lw_m4 55 rfl) rfl
theorem q851 : (Jvm.Cond.instanceMethod ({ cls := "ChantRules$Rule", name := "arcsAt", desc := "(IZ)I" } : Jvm.MethodName)) ∈ lw_all := lw_g (lw_at lw_m4 56 rfl) rfl
theorem q852 : (Jvm.Cond.selects "ChantRules$Rule" ({ cls := "ChantRules$Rule", name := "arcsAt", desc := "(IZ)I" } : Jvm.MethodName) ({ cls := "ChantRules$Rule", name := "arcsAt", desc := "(IZ)I" } : Jvm.MethodName)) ∈ lw_all := lw_g (lw_at lw_m4 57 rfl) rfl
theorem q853 : (Jvm.Cond.code ({ cls := "ChantRules$Rule", name := "arcsAt", desc := "(IZ)I" } : Jvm.MethodName) prog_12_method_15_code (6 : Nat) (Option.some Jvm.ClassFile.FieldType.int)) ∈ lw_all := lw_g (lw_at lw_m4 58 rfl) rfl
theorem q854 : (Jvm.Cond.methodLink "ChantRules$Rule" (123 : Nat) ({ cls := "ChantRules$Rule", name := "reached", desc := "()[Z" } : Jvm.MethodName)) ∈ lw_all := lw_g (lw_at lw_m4 59 rfl) rfl
theorem q855 : (Jvm.Cond.sameMethod "ChantRules$Rule" "ChantRules$Machine" "reached" "()[Z") ∈ lw_all := lw_g (lw_at lw_m4 60 rfl) rfl
theorem q857 : (Jvm.Cond.selects "ChantRules$Rule" ({ cls := "ChantRules$Rule", name := "reached", desc := "()[Z" } : Jvm.MethodName) ({ cls := "ChantRules$Machine", name := "reached", desc := "()[Z" } : Jvm.MethodName)) ∈ lw_all := lw_g (lw_at lw_m4 62 rfl) rfl
theorem q864 : (Jvm.Cond.selects "ChantRules$Rule" ({ cls := "ChantRules$Machine", name := "from", desc := "(IZ)[Z" } : Jvm.MethodName) ({ cls := "ChantRules$Machine", name := "from", desc := "(IZ)[Z" } : Jvm.MethodName)) ∈ lw_all := lw_g (lw_at lw_m4 69 rfl) rfl
theorem q872 : (Jvm.Cond.selects "ChantRules$Rule" ({ cls := "ChantRules$Machine", name := "states", desc := "()I" } : Jvm.MethodName) ({ cls := "ChantRules$Rule", name := "states", desc := "()I" } : Jvm.MethodName)) ∈ lw_all := lw_g (lw_at lw_m4 77 rfl) rfl
theorem q873 : (Jvm.Cond.instanceMethod ({ cls := "ChantRules$Rule", name := "states", desc := "()I" } : Jvm.MethodName)) ∈ lw_all := lw_g (lw_at lw_m4 78 rfl) rfl
theorem q874 : (Jvm.Cond.code ({ cls := "ChantRules$Rule", name := "states", desc := "()I" } : Jvm.MethodName) prog_12_method_3_code (1 : Nat) (Option.some Jvm.ClassFile.FieldType.int)) ∈ lw_all := lw_g (lw_at lw_m4 79 rfl) rfl
theorem q881 : (Jvm.Cond.selects "ChantRules$Rule" ({ cls := "ChantRules$Machine", name := "arcs", desc := "()Ljava/util/ArrayList;" } : Jvm.MethodName) ({ cls := "ChantRules$Rule", name := "arcs", desc := "()Ljava/util/ArrayList;" } : Jvm.MethodName)) ∈ lw_all := lw_g (lw_at lw_m4 86 rfl) rfl
theorem q882 : (Jvm.Cond.instanceMethod ({ cls := "ChantRules$Rule", name := "arcs", desc := "()Ljava/util/ArrayList;" } : Jvm.MethodName)) ∈ lw_all := lw_g (lw_at lw_m4 87 rfl) rfl
theorem q883 : (Jvm.Cond.code ({ cls := "ChantRules$Rule", name := "arcs", desc := "()Ljava/util/ArrayList;" } : Jvm.MethodName) prog_12_method_4_code (1 : Nat) (Option.some (Jvm.ClassFile.FieldType.object "java/util/ArrayList"))) ∈ lw_all := lw_g (lw_at lw_m4 88 rfl) rfl
theorem q895 : (Jvm.Cond.methodLink "ChantRules$Rule" (126 : Nat) ({ cls := "ChantRules$Rule", name := "useful", desc := "(I)I" } : Jvm.MethodName)) ∈ lw_all := lw_g (lw_at lw_m4 100 rfl) rfl
theorem q896 : (Jvm.Cond.sameMethod "ChantRules$Rule" "ChantRules$Machine" "useful" "(I)I") ∈ lw_all := lw_g (lw_at lw_m4 101 rfl) rfl
theorem q898 : (Jvm.Cond.selects "ChantRules$Rule" ({ cls := "ChantRules$Rule", name := "useful", desc := "(I)I" } : Jvm.MethodName) ({ cls := "ChantRules$Machine", name := "useful", desc := "(I)I" } : Jvm.MethodName)) ∈ lw_all := lw_g (lw_at lw_m4 103 rfl) rfl
theorem q905 : (Jvm.Cond.selects "ChantRules$Rule" ({ cls := "ChantRules$Machine", name := "useful", desc := "()[Z" } : Jvm.MethodName) ({ cls := "ChantRules$Machine", name := "useful", desc := "()[Z" } : Jvm.MethodName)) ∈ lw_all := lw_g (lw_at lw_m4 110 rfl) rfl
theorem q914 : (Jvm.Cond.instanceMethod ({ cls := "ChantRules$Rule", name := "end", desc := "(I)I" } : Jvm.MethodName)) ∈ lw_all := lw_g (lw_at lw_m4 119 rfl) rfl
theorem q915 : (Jvm.Cond.selects "ChantRules$Rule" ({ cls := "ChantRules$Rule", name := "end", desc := "(I)I" } : Jvm.MethodName) ({ cls := "ChantRules$Rule", name := "end", desc := "(I)I" } : Jvm.MethodName)) ∈ lw_all := lw_g (lw_at lw_m4 120 rfl) rfl
theorem q916 : (Jvm.Cond.code ({ cls := "ChantRules$Rule", name := "end", desc := "(I)I" } : Jvm.MethodName) prog_12_method_5_code (2 : Nat) (Option.some Jvm.ClassFile.FieldType.int)) ∈ lw_all := lw_g (lw_at lw_m4 121 rfl) rfl
theorem q917 : (Jvm.Cond.selects "ChantRules$Rule" ({ cls := "ChantRules$Machine", name := "end", desc := "(I)I" } : Jvm.MethodName) ({ cls := "ChantRules$Rule", name := "end", desc := "(I)I" } : Jvm.MethodName)) ∈ lw_all := lw_g (lw_at lw_m4 122 rfl) rfl
theorem q919 : (Jvm.Cond.methodLink "ChantRules$Rule" (107 : Nat) ({ cls := "ChantRules$Rule", name := "breathSet", desc := "(I)I" } : Jvm.MethodName)) ∈ lw_all := lw_g (lw_at lw_m4 124 rfl) rfl
theorem q920 : (Jvm.Cond.privateMethod ({ cls := "ChantRules$Rule", name := "breathSet", desc := "(I)I" } : Jvm.MethodName)) ∈ lw_tbl := lw_at lw_m4 125 rfl
theorem q921 : (Jvm.Cond.instanceMethod ({ cls := "ChantRules$Rule", name := "breathSet", desc := "(I)I" } : Jvm.MethodName)) ∈ lw_all := lw_g (lw_at lw_m4 126 rfl) rfl
theorem q922 : (Jvm.Cond.code ({ cls := "ChantRules$Rule", name := "breathSet", desc := "(I)I" } : Jvm.MethodName) prog_12_method_16_code (5 : Nat) (Option.some Jvm.ClassFile.FieldType.int)) ∈ lw_all := lw_g (lw_at lw_m4 127 rfl) rfl
theorem q923 : (Jvm.Cond.methodLink "ChantRules$Rule" (102 : Nat) ({ cls := "ChantRules$Rule", name := "from", desc := "(IZ)[Z" } : Jvm.MethodName)) ∈ lw_all := lw_g (lw_at lw_m4 128 rfl) rfl
theorem q924 : (Jvm.Cond.sameMethod "ChantRules$Rule" "ChantRules$Machine" "from" "(IZ)[Z") ∈ lw_all := lw_g (lw_at lw_m4 129 rfl) rfl
theorem q926 : (Jvm.Cond.selects "ChantRules$Rule" ({ cls := "ChantRules$Rule", name := "from", desc := "(IZ)[Z" } : Jvm.MethodName) ({ cls := "ChantRules$Machine", name := "from", desc := "(IZ)[Z" } : Jvm.MethodName)) ∈ lw_all := lw_g (lw_at lw_m4 131 rfl) rfl
theorem q970 : (Jvm.Cond.sameMethod "ChantRules$Rule" "ChantRules$Machine" "reads" "(Ljava/lang/CharSequence;)LChantRules$Way;") ∈ lw_all := lw_g (lw_at lw_m4 175 rfl) rfl
theorem q972 : (Jvm.Cond.selects "ChantRules$Rule" ({ cls := "ChantRules$Rule", name := "reads", desc := "(Ljava/lang/CharSequence;)LChantRules$Way;" } : Jvm.MethodName) ({ cls := "ChantRules$Machine", name := "reads", desc := "(Ljava/lang/CharSequence;)LChantRules$Way;" } : Jvm.MethodName)) ∈ lw_all := lw_g (lw_at lw_m4 177 rfl) rfl
theorem q1381 : (Jvm.Cond.sameMethod "ChantRules$Rule" "ChantRules$Machine" "leastOf" "(Z)I") ∈ lw_all := lw_g (lw_at lw_m6 106 rfl) rfl
theorem q1383 : (Jvm.Cond.selects "ChantRules$Rule" ({ cls := "ChantRules$Rule", name := "leastOf", desc := "(Z)I" } : Jvm.MethodName) ({ cls := "ChantRules$Machine", name := "leastOf", desc := "(Z)I" } : Jvm.MethodName)) ∈ lw_all := lw_g (lw_at lw_m6 108 rfl) rfl
theorem q1397 : (Jvm.Cond.instanceMethod ({ cls := "ChantRules$Rule", name := "breathes", desc := "()Z" } : Jvm.MethodName)) ∈ lw_all := lw_g (lw_at lw_m6 122 rfl) rfl
theorem q1398 : (Jvm.Cond.selects "ChantRules$Rule" ({ cls := "ChantRules$Rule", name := "breathes", desc := "()Z" } : Jvm.MethodName) ({ cls := "ChantRules$Rule", name := "breathes", desc := "()Z" } : Jvm.MethodName)) ∈ lw_all := lw_g (lw_at lw_m6 123 rfl) rfl
theorem q1399 : (Jvm.Cond.code ({ cls := "ChantRules$Rule", name := "breathes", desc := "()Z" } : Jvm.MethodName) prog_12_method_18_code (4 : Nat) (Option.some Jvm.ClassFile.FieldType.boolean)) ∈ lw_all := lw_g (lw_at lw_m6 124 rfl) rfl
theorem q1400 : (Jvm.Cond.methodLink "ChantRules$Rule" (111 : Nat) ({ cls := "ChantRules$Rule", name := "useful", desc := "()[Z" } : Jvm.MethodName)) ∈ lw_all := lw_g (lw_at lw_m6 125 rfl) rfl
theorem q1401 : (Jvm.Cond.sameMethod "ChantRules$Rule" "ChantRules$Machine" "useful" "()[Z") ∈ lw_all := lw_g (lw_at lw_m6 126 rfl) rfl
theorem q1403 : (Jvm.Cond.selects "ChantRules$Rule" ({ cls := "ChantRules$Rule", name := "useful", desc := "()[Z" } : Jvm.MethodName) ({ cls := "ChantRules$Machine", name := "useful", desc := "()[Z" } : Jvm.MethodName)) ∈ lw_all := lw_g (lw_at lw_m6 128 rfl) rfl
theorem q1404 : (Jvm.Cond.methodLink "ChantRules$Rule" (115 : Nat) ({ cls := "ChantRules$Rule", name := "comesBack", desc := "(I)Z" } : Jvm.MethodName)) ∈ lw_all := lw_g (lw_at lw_m6 129 rfl) rfl
theorem q1405 : (Jvm.Cond.privateMethod ({ cls := "ChantRules$Rule", name := "comesBack", desc := "(I)Z" } : Jvm.MethodName)) ∈ lw_tbl := lw_at lw_m6 130 rfl
theorem q1406 : (Jvm.Cond.instanceMethod ({ cls := "ChantRules$Rule", name := "comesBack", desc := "(I)Z" } : Jvm.MethodName)) ∈ lw_all := lw_g (lw_at lw_m6 131 rfl) rfl
theorem q1407 : (Jvm.Cond.code ({ cls := "ChantRules$Rule", name := "comesBack", desc := "(I)Z" } : Jvm.MethodName) prog_12_method_17_code (5 : Nat) (Option.some Jvm.ClassFile.FieldType.boolean)) ∈ lw_all := lw_g (lw_at lw_m6 132 rfl) rfl
theorem q1408 : (Jvm.Cond.classLink "ChantRules$Rule" (105 : Nat) "ChantRules$Breathed") ∈ lw_all := lw_g (lw_at lw_m6 133 rfl) rfl
theorem q1414 : (Jvm.Cond.instanceMethod ({ cls := "ChantRules$Rule", name := "ranked", desc := "(I)I" } : Jvm.MethodName)) ∈ lw_all := lw_g (lw_at lw_m6 139 rfl) rfl
theorem q1415 : (Jvm.Cond.selects "ChantRules$Rule" ({ cls := "ChantRules$Rule", name := "ranked", desc := "(I)I" } : Jvm.MethodName) ({ cls := "ChantRules$Rule", name := "ranked", desc := "(I)I" } : Jvm.MethodName)) ∈ lw_all := lw_g (lw_at lw_m6 140 rfl) rfl
theorem q1416 : (Jvm.Cond.code ({ cls := "ChantRules$Rule", name := "ranked", desc := "(I)I" } : Jvm.MethodName) prog_12_method_22_code (5 : Nat) (Option.some Jvm.ClassFile.FieldType.int)) ∈ lw_all := lw_g (lw_at lw_m6 141 rfl) rfl
theorem q1417 : (Jvm.Cond.methodLink "ChantRules$Rule" (128 : Nat) ({ cls := "ChantRules$Rule", name := "isAhead", desc := "(II)Z" } : Jvm.MethodName)) ∈ lw_all := lw_g (lw_at lw_m6 142 rfl) rfl
theorem q1418 : (Jvm.Cond.privateMethod ({ cls := "ChantRules$Rule", name := "isAhead", desc := "(II)Z" } : Jvm.MethodName)) ∈ lw_tbl := lw_at lw_m6 143 rfl
theorem q1419 : (Jvm.Cond.instanceMethod ({ cls := "ChantRules$Rule", name := "isAhead", desc := "(II)Z" } : Jvm.MethodName)) ∈ lw_all := lw_g (lw_at lw_m6 144 rfl) rfl
theorem q1420 : (Jvm.Cond.code ({ cls := "ChantRules$Rule", name := "isAhead", desc := "(II)Z" } : Jvm.MethodName) prog_12_method_21_code (5 : Nat) (Option.some Jvm.ClassFile.FieldType.boolean)) ∈ lw_all := lw_g (lw_at lw_m6 145 rfl) rfl
theorem q1755 : (Jvm.Cond.instanceMethod ({ cls := "ChantRules$Rule", name := "text", desc := "()Ljava/lang/String;" } : Jvm.MethodName)) ∈ lw_all := lw_g (lw_at lw_m8 0 rfl) rfl
theorem q1756 : (Jvm.Cond.selects "ChantRules$Rule" ({ cls := "ChantRules$Rule", name := "text", desc := "()Ljava/lang/String;" } : Jvm.MethodName) ({ cls := "ChantRules$Rule", name := "text", desc := "()Ljava/lang/String;" } : Jvm.MethodName)) ∈ lw_all := lw_g (lw_at lw_m8 1 rfl) rfl
theorem q1757 : (Jvm.Cond.code ({ cls := "ChantRules$Rule", name := "text", desc := "()Ljava/lang/String;" } : Jvm.MethodName) prog_12_method_25_code (4 : Nat) (Option.some (Jvm.ClassFile.FieldType.object "java/lang/String"))) ∈ lw_all := lw_g (lw_at lw_m8 2 rfl) rfl
theorem q1758 : (Jvm.Cond.classLink "ChantRules$Rule" (138 : Nat) "java/lang/StringBuilder") ∈ lw_all := lw_g (lw_at lw_m8 3 rfl) rfl
theorem q1759 : (Jvm.Cond.methodLink "ChantRules$Rule" (140 : Nat) ({ cls := "java/lang/StringBuilder", name := "<init>", desc := "()V" } : Jvm.MethodName)) ∈ lw_all := lw_g (lw_at lw_m8 4 rfl) rfl
theorem q1760 : (Jvm.Cond.stringRef "ChantRules$Rule" (141 : Nat) ",") ∈ lw_tbl := lw_at lw_m8 5 rfl
theorem q1761 : (Jvm.Cond.stringRef "ChantRules$Rule" (143 : Nat) "") ∈ lw_tbl := lw_at lw_m8 6 rfl
theorem q1762 : (Jvm.Cond.methodLink "ChantRules$Rule" (145 : Nat) ({ cls := "java/lang/StringBuilder", name := "append", desc := "(Ljava/lang/String;)Ljava/lang/StringBuilder;" } : Jvm.MethodName)) ∈ lw_all := lw_g (lw_at lw_m8 7 rfl) rfl
theorem q1792 : (Jvm.Cond.methodLink "ChantRules$Rule" (149 : Nat) ({ cls := "java/lang/StringBuilder", name := "append", desc := "(I)Ljava/lang/StringBuilder;" } : Jvm.MethodName)) ∈ lw_all := lw_g (lw_at lw_m8 37 rfl) rfl
theorem q1793 : (Jvm.Cond.stringRef "ChantRules$Rule" (152 : Nat) "!") ∈ lw_tbl := lw_at lw_m8 38 rfl
theorem q1794 : (Jvm.Cond.stringRef "ChantRules$Rule" (154 : Nat) "=") ∈ lw_tbl := lw_at lw_m8 39 rfl
theorem q1795 : (Jvm.Cond.methodLink "ChantRules$Rule" (156 : Nat) ({ cls := "java/lang/StringBuilder", name := "toString", desc := "()Ljava/lang/String;" } : Jvm.MethodName)) ∈ lw_all := lw_g (lw_at lw_m8 40 rfl) rfl
theorem q1816 : (Jvm.Cond.instanceMethod ({ cls := "ChantRules$Rule", name := "weights", desc := "()I" } : Jvm.MethodName)) ∈ lw_all := lw_g (lw_at lw_m8 61 rfl) rfl
theorem q1817 : (Jvm.Cond.selects "ChantRules$Rule" ({ cls := "ChantRules$Rule", name := "weights", desc := "()I" } : Jvm.MethodName) ({ cls := "ChantRules$Rule", name := "weights", desc := "()I" } : Jvm.MethodName)) ∈ lw_all := lw_g (lw_at lw_m8 62 rfl) rfl
theorem q1818 : (Jvm.Cond.code ({ cls := "ChantRules$Rule", name := "weights", desc := "()I" } : Jvm.MethodName) prog_12_method_23_code (4 : Nat) (Option.some Jvm.ClassFile.FieldType.int)) ∈ lw_all := lw_g (lw_at lw_m8 63 rfl) rfl
theorem q1820 : (Jvm.Cond.instanceMethod ({ cls := "ChantRules$Rule", name := "so", desc := "(LChantRules$Test;)I" } : Jvm.MethodName)) ∈ lw_all := lw_g (lw_at lw_m8 65 rfl) rfl
theorem q1821 : (Jvm.Cond.selects "ChantRules$Rule" ({ cls := "ChantRules$Rule", name := "so", desc := "(LChantRules$Test;)I" } : Jvm.MethodName) ({ cls := "ChantRules$Rule", name := "so", desc := "(LChantRules$Test;)I" } : Jvm.MethodName)) ∈ lw_all := lw_g (lw_at lw_m8 66 rfl) rfl
theorem q1822 : (Jvm.Cond.code ({ cls := "ChantRules$Rule", name := "so", desc := "(LChantRules$Test;)I" } : Jvm.MethodName) prog_12_method_24_code (5 : Nat) (Option.some Jvm.ClassFile.FieldType.int)) ∈ lw_all := lw_g (lw_at lw_m8 67 rfl) rfl
theorem q1823 : (Jvm.Cond.interfaceEntry "ChantRules$Rule" (132 : Nat)) ∈ lw_tbl := lw_at lw_m8 68 rfl
theorem q1824 : (Jvm.Cond.methodLink "ChantRules$Rule" (132 : Nat) ({ cls := "ChantRules$Test", name := "is", desc := "(LChantRules$Arc;)Z" } : Jvm.MethodName)) ∈ lw_all := lw_g (lw_at lw_m8 69 rfl) rfl
theorem q1860 : (Jvm.Cond.sameMethod "ChantRules$Rule" "ChantRules$Machine" "usefulMany" "()I") ∈ lw_all := lw_g (lw_at lw_m8 105 rfl) rfl
theorem q1861 : (Jvm.Cond.selects "ChantRules$Rule" ({ cls := "ChantRules$Rule", name := "usefulMany", desc := "()I" } : Jvm.MethodName) ({ cls := "ChantRules$Machine", name := "usefulMany", desc := "()I" } : Jvm.MethodName)) ∈ lw_all := lw_g (lw_at lw_m8 106 rfl) rfl
theorem q2341 : (Jvm.Cond.selects "ChantRules$Rule" ({ cls := "ChantRules$Machine", name := "reached", desc := "()[Z" } : Jvm.MethodName) ({ cls := "ChantRules$Machine", name := "reached", desc := "()[Z" } : Jvm.MethodName)) ∈ lw_all := lw_g (lw_at lw_m10 106 rfl) rfl
theorem q2363 : (Jvm.Cond.castable "ChantRules$Rule" "java/lang/Object") ∈ lw_tbl := lw_at lw_m10 128 rfl
theorem in_X3 : ∀ w ∈ wsX30, w ∈ lw_all := lw_in wsX30 [184, 186, 188] (by decide +kernel) (by decide +kernel)
/-! ChantRules$Sound -/
set_option maxRecDepth 100000
def RX4 : String := "ChantRules$Sound"
abbrev cX4_values : ByteArray := prog_13_method_1_code
def yX4_values : MethodName := ⟨RX4, "values", "()[LChantRules$Sound;"⟩
def dkwX4_values_0 : List UInt8 := [178, 0, 19, 182, 0, 23, 192, 0, 24, 176]
abbrev dktX4_values_0 : List UInt8 := dkwX4_values_0 ++ []
theorem dksX4_values_0 : cX4_values.data.toList.drop 0 = dktX4_values_0 := by decide +kernel
theorem dX4_values_0 : decode cX4_values 0 = .ok (.getstatic 19, 3) := dk_178 0 19 (dk_at dksX4_values_0 0 rfl rfl)
theorem dX4_values_3 : decode cX4_values 3 = .ok (.invokevirtual 23, 3) := dk_182 0 23 (dk_at dksX4_values_0 3 rfl rfl)
theorem dX4_values_6 : decode cX4_values 6 = .ok (.checkcast 24, 3) := dk_192 0 24 (dk_at dksX4_values_0 6 rfl rfl)
theorem dX4_values_9 : decode cX4_values 9 = .ok (.areturn, 1) := dk_176 (dk_at dksX4_values_0 9 rfl rfl)
abbrev cX4_sign : ByteArray := prog_13_method_4_code
def yX4_sign : MethodName := ⟨RX4, "sign", "()C"⟩
def dkwX4_sign_0 : List UInt8 := [16, 97, 42, 182, 0, 38, 96, 146, 172]
abbrev dktX4_sign_0 : List UInt8 := dkwX4_sign_0 ++ []
theorem dksX4_sign_0 : cX4_sign.data.toList.drop 0 = dktX4_sign_0 := by decide +kernel
theorem dX4_sign_0 : decode cX4_sign 0 = .ok (.bipush 97, 2) := dk_16 97 (dk_at dksX4_sign_0 0 rfl rfl)
theorem dX4_sign_2 : decode cX4_sign 2 = .ok (.aload_n 0, 1) := dk_42 (dk_at dksX4_sign_0 2 rfl rfl)
theorem dX4_sign_3 : decode cX4_sign 3 = .ok (.invokevirtual 38, 3) := dk_182 0 38 (dk_at dksX4_sign_0 3 rfl rfl)
theorem dX4_sign_6 : decode cX4_sign 6 = .ok (.iadd, 1) := dk_96 (dk_at dksX4_sign_0 6 rfl rfl)
theorem dX4_sign_7 : decode cX4_sign 7 = .ok (.i2c, 1) := dk_146 (dk_at dksX4_sign_0 7 rfl rfl)
theorem dX4_sign_8 : decode cX4_sign 8 = .ok (.ireturn, 1) := dk_172 (dk_at dksX4_sign_0 8 rfl rfl)
theorem q89 : (Jvm.Cond.initialized "ChantRules$Sound") ∈ lw_all := lw_g (lw_at lw_m1 14 rfl) rfl
theorem q262 : (Jvm.Cond.static ({ cls := "ChantRules$Sound", name := "values", desc := "()[LChantRules$Sound;" } : Jvm.MethodName)) ∈ lw_all := lw_g (lw_at lw_m1 187 rfl) rfl
theorem q263 : (Jvm.Cond.code ({ cls := "ChantRules$Sound", name := "values", desc := "()[LChantRules$Sound;" } : Jvm.MethodName) prog_13_method_1_code (0 : Nat) (Option.some (Jvm.ClassFile.FieldType.array (Jvm.ClassFile.FieldType.object "ChantRules$Sound")))) ∈ lw_all := lw_g (lw_at lw_m1 188 rfl) rfl
theorem q264 : (Jvm.Cond.fieldLink "ChantRules$Sound" (19 : Nat) "ChantRules$Sound" "$VALUES" "[LChantRules$Sound;") ∈ lw_all := lw_g (lw_at lw_m1 189 rfl) rfl
theorem q265 : (Jvm.Cond.laysStatic "ChantRules$Sound" "$VALUES" "[LChantRules$Sound;") ∈ lw_tbl := lw_at lw_m1 190 rfl
theorem q266 : (Jvm.Cond.methodLink "ChantRules$Sound" (23 : Nat) ({ cls := "[LChantRules$Sound;", name := "clone", desc := "()Ljava/lang/Object;" } : Jvm.MethodName)) ∈ lw_all := lw_g (lw_at lw_m1 191 rfl) rfl
theorem q273 : (Jvm.Cond.classLink "ChantRules$Sound" (24 : Nat) "[LChantRules$Sound;") ∈ lw_all := lw_g (lw_at lw_m1 198 rfl) rfl
theorem q275 : (Jvm.Cond.sameMethod "ChantRules$Sound" "java/lang/Enum" "ordinal" "()I") ∈ lw_all := lw_g (lw_at lw_m1 200 rfl) rfl
theorem q277 : (Jvm.Cond.selects "ChantRules$Sound" ({ cls := "ChantRules$Sound", name := "ordinal", desc := "()I" } : Jvm.MethodName) ({ cls := "java/lang/Enum", name := "ordinal", desc := "()I" } : Jvm.MethodName)) ∈ lw_all := lw_g (lw_at lw_m1 202 rfl) rfl
theorem q445 : (Jvm.Cond.selects "ChantRules$Sound" ({ cls := "java/lang/Object", name := "getClass", desc := "()Ljava/lang/Class;" } : Jvm.MethodName) ({ cls := "java/lang/Object", name := "getClass", desc := "()Ljava/lang/Class;" } : Jvm.MethodName)) ∈ lw_all := lw_g (lw_at lw_m2 130 rfl) rfl
theorem q1110 : (Jvm.Cond.laysStatic "ChantRules$Sound" "A" "LChantRules$Sound;") ∈ lw_tbl := lw_at lw_m5 75 rfl
theorem q1112 : (Jvm.Cond.laysStatic "ChantRules$Sound" "B" "LChantRules$Sound;") ∈ lw_tbl := lw_at lw_m5 77 rfl
theorem q1114 : (Jvm.Cond.laysStatic "ChantRules$Sound" "C" "LChantRules$Sound;") ∈ lw_tbl := lw_at lw_m5 79 rfl
theorem q1116 : (Jvm.Cond.laysStatic "ChantRules$Sound" "D" "LChantRules$Sound;") ∈ lw_tbl := lw_at lw_m5 81 rfl
theorem q1118 : (Jvm.Cond.laysStatic "ChantRules$Sound" "NO_SOUND" "LChantRules$Sound;") ∈ lw_tbl := lw_at lw_m5 83 rfl
theorem q1120 : (Jvm.Cond.instanceMethod ({ cls := "ChantRules$Sound", name := "sign", desc := "()C" } : Jvm.MethodName)) ∈ lw_all := lw_g (lw_at lw_m5 85 rfl) rfl
theorem q1121 : (Jvm.Cond.selects "ChantRules$Sound" ({ cls := "ChantRules$Sound", name := "sign", desc := "()C" } : Jvm.MethodName) ({ cls := "ChantRules$Sound", name := "sign", desc := "()C" } : Jvm.MethodName)) ∈ lw_all := lw_g (lw_at lw_m5 86 rfl) rfl
theorem q1122 : (Jvm.Cond.sameMethod "ChantRules$Sound" "ChantRules$Sound" "sign" "()C") ∈ lw_all := lw_g (lw_at lw_m5 87 rfl) rfl
theorem q1126 : (Jvm.Cond.code ({ cls := "ChantRules$Sound", name := "sign", desc := "()C" } : Jvm.MethodName) prog_13_method_4_code (1 : Nat) (Option.some Jvm.ClassFile.FieldType.char)) ∈ lw_all := lw_g (lw_at lw_m5 91 rfl) rfl
theorem q1127 : (Jvm.Cond.methodLink "ChantRules$Sound" (38 : Nat) ({ cls := "ChantRules$Sound", name := "ordinal", desc := "()I" } : Jvm.MethodName)) ∈ lw_all := lw_g (lw_at lw_m5 92 rfl) rfl
theorem q2364 : (Jvm.Cond.castable "ChantRules$Sound" "java/lang/Object") ∈ lw_tbl := lw_at lw_m10 129 rfl
/-! ChantRules$Refused -/
set_option maxRecDepth 100000
def RX6 : String := "ChantRules$Refused"
def TX6 : u_T := fun k => match k with
  | 0 => ("java/lang/Throwable", "cause", "Ljava/lang/Throwable;", false)
  | 1 => ("java/lang/Throwable", "stackTrace", "[Ljava/lang/StackTraceElement;", false)
  | 2 => ("java/lang/Throwable", "suppressedExceptions", "Ljava/util/List;", false)
  | 3 => ("java/lang/Throwable", "detailMessage", "Ljava/lang/String;", false)
  | 4 => ("java/lang/Throwable", "backtrace", "Ljava/lang/Object;", false)
  | 5 => ("java/lang/Throwable", "depth", "I", false)
  | 6 => ("ChantRules$Refused", "reason", "I", true)
  | _ => ("ChantRules$Refused", "detail", "I", true)
def tyX6 : Nat → FieldType := fun k => match k with
  | 0 => .object "java/lang/Throwable"
  | 1 => .array (.object "java/lang/StackTraceElement")
  | 2 => .object "java/util/List"
  | 3 => .object "java/lang/String"
  | 4 => .object "java/lang/Object"
  | 5 => .int
  | 6 => .int
  | _ => .int
abbrev wsX60 : List Cond := u_ws RX6 TX6 8
theorem nmX6 : ∀ a, a < 8 → ∀ b, b < 8 → a ≠ b → (TX6 a).2.1 ≠ (TX6 b).2.1 := by decide +kernel
theorem tyX6_ok : ∀ k, k < 8 → parseFieldDescriptor (TX6 k).2.2.1 = some (tyX6 k) := by decide +kernel
abbrev cX6_init : ByteArray := prog_11_method_2_code
def yX6_init : MethodName := ⟨RX6, "<init>", "(II)V"⟩
def dkwX6_init_0 : List UInt8 := [42, 27, 28, 1, 183, 0, 16, 177]
abbrev dktX6_init_0 : List UInt8 := dkwX6_init_0 ++ []
theorem dksX6_init_0 : cX6_init.data.toList.drop 0 = dktX6_init_0 := by decide +kernel
theorem dX6_init_0 : decode cX6_init 0 = .ok (.aload_n 0, 1) := dk_42 (dk_at dksX6_init_0 0 rfl rfl)
theorem dX6_init_1 : decode cX6_init 1 = .ok (.iload_n 1, 1) := dk_27 (dk_at dksX6_init_0 1 rfl rfl)
theorem dX6_init_2 : decode cX6_init 2 = .ok (.iload_n 2, 1) := dk_28 (dk_at dksX6_init_0 2 rfl rfl)
theorem dX6_init_3 : decode cX6_init 3 = .ok (.aconst_null, 1) := dk_1 (dk_at dksX6_init_0 3 rfl rfl)
theorem dX6_init_4 : decode cX6_init 4 = .ok (.invokespecial 16, 3) := dk_183 0 16 (dk_at dksX6_init_0 4 rfl rfl)
theorem dX6_init_7 : decode cX6_init 7 = .ok (.return_, 1) := dk_177 (dk_at dksX6_init_0 7 rfl rfl)
abbrev cX6_init_2 : ByteArray := prog_11_method_1_code
def yX6_init_2 : MethodName := ⟨RX6, "<init>", "(IILChantRules$Refused;)V"⟩
def dkwX6_init_2_0 : List UInt8 := [42, 1, 45, 3, 3, 183, 0, 1, 42, 27, 181, 0, 7, 42, 28, 181, 0, 13, 177]
abbrev dktX6_init_2_0 : List UInt8 := dkwX6_init_2_0 ++ []
theorem dksX6_init_2_0 : cX6_init_2.data.toList.drop 0 = dktX6_init_2_0 := by decide +kernel
theorem dX6_init_2_0 : decode cX6_init_2 0 = .ok (.aload_n 0, 1) := dk_42 (dk_at dksX6_init_2_0 0 rfl rfl)
theorem dX6_init_2_1 : decode cX6_init_2 1 = .ok (.aconst_null, 1) := dk_1 (dk_at dksX6_init_2_0 1 rfl rfl)
theorem dX6_init_2_2 : decode cX6_init_2 2 = .ok (.aload_n 3, 1) := dk_45 (dk_at dksX6_init_2_0 2 rfl rfl)
theorem dX6_init_2_3 : decode cX6_init_2 3 = .ok (.iconst 0, 1) := dk_3 (dk_at dksX6_init_2_0 3 rfl rfl)
theorem dX6_init_2_4 : decode cX6_init_2 4 = .ok (.iconst 0, 1) := dk_3 (dk_at dksX6_init_2_0 4 rfl rfl)
theorem dX6_init_2_5 : decode cX6_init_2 5 = .ok (.invokespecial 1, 3) := dk_183 0 1 (dk_at dksX6_init_2_0 5 rfl rfl)
theorem dX6_init_2_8 : decode cX6_init_2 8 = .ok (.aload_n 0, 1) := dk_42 (dk_at dksX6_init_2_0 8 rfl rfl)
theorem dX6_init_2_9 : decode cX6_init_2 9 = .ok (.iload_n 1, 1) := dk_27 (dk_at dksX6_init_2_0 9 rfl rfl)
theorem dX6_init_2_10 : decode cX6_init_2 10 = .ok (.putfield 7, 3) := dk_181 0 7 (dk_at dksX6_init_2_0 10 rfl rfl)
theorem dX6_init_2_13 : decode cX6_init_2 13 = .ok (.aload_n 0, 1) := dk_42 (dk_at dksX6_init_2_0 13 rfl rfl)
theorem dX6_init_2_14 : decode cX6_init_2 14 = .ok (.iload_n 2, 1) := dk_28 (dk_at dksX6_init_2_0 14 rfl rfl)
theorem dX6_init_2_15 : decode cX6_init_2 15 = .ok (.putfield 13, 3) := dk_181 0 13 (dk_at dksX6_init_2_0 15 rfl rfl)
theorem dX6_init_2_18 : decode cX6_init_2 18 = .ok (.return_, 1) := dk_177 (dk_at dksX6_init_2_0 18 rfl rfl)
theorem q98 : (Jvm.Cond.initialized "ChantRules$Refused") ∈ lw_all := lw_g (lw_at lw_m1 23 rfl) rfl
theorem q443 : (Jvm.Cond.selects "ChantRules$Refused" ({ cls := "java/lang/Object", name := "getClass", desc := "()Ljava/lang/Class;" } : Jvm.MethodName) ({ cls := "java/lang/Object", name := "getClass", desc := "()Ljava/lang/Class;" } : Jvm.MethodName)) ∈ lw_all := lw_g (lw_at lw_m2 128 rfl) rfl
theorem q477 : (Jvm.Cond.instantiable "ChantRules$Refused" (8 : Nat)) ∈ lw_all := lw_g (lw_at lw_m2 162 rfl) rfl
theorem q478 : (Jvm.Cond.castable "ChantRules$Refused" "ChantRules$Refused") ∈ lw_tbl := lw_at lw_m2 163 rfl
theorem q483 : (Jvm.Cond.selects "ChantRules$Refused" ({ cls := "java/lang/Throwable", name := "fillInStackTrace", desc := "(I)Ljava/lang/Throwable;" } : Jvm.MethodName) ({ cls := "java/lang/Throwable", name := "fillInStackTrace", desc := "(I)Ljava/lang/Throwable;" } : Jvm.MethodName)) ∈ lw_all := lw_g (lw_at lw_m2 168 rfl) rfl
theorem q484 : (Jvm.Cond.selects "ChantRules$Refused" ({ cls := "java/lang/Throwable", name := "fillInStackTrace", desc := "()Ljava/lang/Throwable;" } : Jvm.MethodName) ({ cls := "java/lang/Throwable", name := "fillInStackTrace", desc := "()Ljava/lang/Throwable;" } : Jvm.MethodName)) ∈ lw_all := lw_g (lw_at lw_m2 169 rfl) rfl
theorem q485 : (Jvm.Cond.lays "ChantRules$Refused" "java/lang/Throwable" "cause" "Ljava/lang/Throwable;") ∈ lw_all := lw_g (lw_at lw_m2 170 rfl) rfl
theorem q487 : (Jvm.Cond.lays "ChantRules$Refused" "java/lang/Throwable" "stackTrace" "[Ljava/lang/StackTraceElement;") ∈ lw_all := lw_g (lw_at lw_m2 172 rfl) rfl
theorem q489 : (Jvm.Cond.lays "ChantRules$Refused" "java/lang/Throwable" "suppressedExceptions" "Ljava/util/List;") ∈ lw_all := lw_g (lw_at lw_m2 174 rfl) rfl
theorem q491 : (Jvm.Cond.lays "ChantRules$Refused" "java/lang/Throwable" "detailMessage" "Ljava/lang/String;") ∈ lw_all := lw_g (lw_at lw_m2 176 rfl) rfl
theorem q493 : (Jvm.Cond.lays "ChantRules$Refused" "java/lang/Throwable" "backtrace" "Ljava/lang/Object;") ∈ lw_all := lw_g (lw_at lw_m2 178 rfl) rfl
theorem q515 : (Jvm.Cond.instanceMethod ({ cls := "ChantRules$Refused", name := "<init>", desc := "(II)V" } : Jvm.MethodName)) ∈ lw_all := lw_g (lw_at lw_m2 200 rfl) rfl
theorem q516 : (Jvm.Cond.code ({ cls := "ChantRules$Refused", name := "<init>", desc := "(II)V" } : Jvm.MethodName) prog_11_method_2_code (3 : Nat) (Option.none : Option Jvm.ClassFile.FieldType)) ∈ lw_all := lw_g (lw_at lw_m2 201 rfl) rfl
theorem q517 : (Jvm.Cond.methodLink "ChantRules$Refused" (16 : Nat) ({ cls := "ChantRules$Refused", name := "<init>", desc := "(IILChantRules$Refused;)V" } : Jvm.MethodName)) ∈ lw_all := lw_g (lw_at lw_m2 202 rfl) rfl
theorem q518 : (Jvm.Cond.instanceMethod ({ cls := "ChantRules$Refused", name := "<init>", desc := "(IILChantRules$Refused;)V" } : Jvm.MethodName)) ∈ lw_all := lw_g (lw_at lw_m2 203 rfl) rfl
theorem q519 : (Jvm.Cond.code ({ cls := "ChantRules$Refused", name := "<init>", desc := "(IILChantRules$Refused;)V" } : Jvm.MethodName) prog_11_method_1_code (4 : Nat) (Option.none : Option Jvm.ClassFile.FieldType)) ∈ lw_all := lw_g (lw_at lw_m2 204 rfl) rfl
theorem q520 : (Jvm.Cond.methodLink "ChantRules$Refused" (1 : Nat) ({ cls := "java/lang/Exception", name := "<init>", desc := "(Ljava/lang/String;Ljava/lang/Throwable;ZZ)V" } : Jvm.MethodName)) ∈ lw_all := lw_g (lw_at lw_m2 205 rfl) rfl
theorem q526 : (Jvm.Cond.fieldLink "ChantRules$Refused" (7 : Nat) "ChantRules$Refused" "reason" "I") ∈ lw_all := lw_g (lw_at lw_m2 211 rfl) rfl
theorem q528 : (Jvm.Cond.fieldLink "ChantRules$Refused" (13 : Nat) "ChantRules$Refused" "detail" "I") ∈ lw_all := lw_g (lw_at lw_m2 213 rfl) rfl
theorem q535 : (Jvm.Cond.laysFinal "ChantRules$Refused" "ChantRules$Refused" "reason" "I") ∈ lw_all := lw_g (lw_at lw_m2 220 rfl) rfl
theorem q536 : (Jvm.Cond.soleField "ChantRules$Refused" "reason") ∈ lw_all := lw_g (lw_at lw_m2 221 rfl) rfl
theorem q537 : (Jvm.Cond.laysFinal "ChantRules$Refused" "ChantRules$Refused" "detail" "I") ∈ lw_all := lw_g (lw_at lw_m2 222 rfl) rfl
theorem q538 : (Jvm.Cond.soleField "ChantRules$Refused" "detail") ∈ lw_all := lw_g (lw_at lw_m2 223 rfl) rfl
theorem q543 : (Jvm.Cond.lays "ChantRules$Refused" "java/lang/Throwable" "depth" "I") ∈ lw_all := lw_g (lw_at lw_m2 228 rfl) rfl
theorem q546 : (Jvm.Cond.superclass "ChantRules$Refused" "java/lang/Exception") ∈ lw_all := lw_g (lw_at lw_m2 231 rfl) rfl
theorem q593 : (Jvm.Cond.sameMethod "ChantRules$Refused" "java/lang/Throwable" "getCause" "()Ljava/lang/Throwable;") ∈ lw_all := lw_g (lw_at lw_m3 38 rfl) rfl
theorem q595 : (Jvm.Cond.selects "ChantRules$Refused" ({ cls := "ChantRules$Refused", name := "getCause", desc := "()Ljava/lang/Throwable;" } : Jvm.MethodName) ({ cls := "java/lang/Throwable", name := "getCause", desc := "()Ljava/lang/Throwable;" } : Jvm.MethodName)) ∈ lw_all := lw_g (lw_at lw_m3 40 rfl) rfl
theorem q2374 : (Jvm.Cond.castable "ChantRules$Refused" "java/lang/Object") ∈ lw_tbl := lw_at lw_m10 139 rfl
theorem in_X6 : ∀ w ∈ wsX60, w ∈ lw_all := lw_in wsX60 [485, 487, 489, 491, 493, 543, 535, 537] (by decide +kernel) (by decide +kernel)
/-! ChantRules$Breathed -/
set_option maxRecDepth 100000
def RX7 : String := "ChantRules$Breathed"
def TX7 : u_T := fun k => match k with
  | 0 => ("ChantRules$Breathed", "from", "I", true)
  | 1 => ("ChantRules$Breathed", "to", "I", true)
  | 2 => ("ChantRules$Breathed", "sings", "I", true)
  | _ => ("ChantRules$Breathed", "weight", "I", true)
def tyX7 : Nat → FieldType := fun k => match k with
  | 0 => .int
  | 1 => .int
  | 2 => .int
  | _ => .int
abbrev wsX70 : List Cond := u_ws RX7 TX7 4
theorem nmX7 : ∀ a, a < 4 → ∀ b, b < 4 → a ≠ b → (TX7 a).2.1 ≠ (TX7 b).2.1 := by decide +kernel
theorem tyX7_ok : ∀ k, k < 4 → parseFieldDescriptor (TX7 k).2.2.1 = some (tyX7 k) := by decide +kernel
abbrev cX7_hears : ByteArray := prog_3_method_4_code
def yX7_hears : MethodName := ⟨RX7, "hears", "()I"⟩
theorem dX7_hears_0 : decode cX7_hears 0 = .ok (.iconst 4, 1) := by decide +kernel
theorem dX7_hears_1 : decode cX7_hears 1 = .ok (.ireturn, 1) := by decide +kernel
abbrev cX7_init : ByteArray := prog_3_method_1_code
def yX7_init : MethodName := ⟨RX7, "<init>", "(IIII)V"⟩
def dkwX7_init_1 : List UInt8 := [181, 0, 21, 177]
abbrev dktX7_init_1 : List UInt8 := dkwX7_init_1 ++ []
def dkwX7_init_0 : List UInt8 := [42, 183, 0, 3, 42, 27, 181, 0, 9, 42, 28, 181, 0, 15, 42, 29, 181, 0, 18, 42, 21, 4]
abbrev dktX7_init_0 : List UInt8 := dkwX7_init_0 ++ dktX7_init_1
theorem dksX7_init_0 : cX7_init.data.toList.drop 0 = dktX7_init_0 := by decide +kernel
theorem dksX7_init_1 : cX7_init.data.toList.drop 22 = dktX7_init_1 := dk_seg dksX7_init_0 22 rfl rfl
theorem dX7_init_0 : decode cX7_init 0 = .ok (.aload_n 0, 1) := dk_42 (dk_at dksX7_init_0 0 rfl rfl)
theorem dX7_init_1 : decode cX7_init 1 = .ok (.invokespecial 3, 3) := dk_183 0 3 (dk_at dksX7_init_0 1 rfl rfl)
theorem dX7_init_4 : decode cX7_init 4 = .ok (.aload_n 0, 1) := dk_42 (dk_at dksX7_init_0 4 rfl rfl)
theorem dX7_init_5 : decode cX7_init 5 = .ok (.iload_n 1, 1) := dk_27 (dk_at dksX7_init_0 5 rfl rfl)
theorem dX7_init_6 : decode cX7_init 6 = .ok (.putfield 9, 3) := dk_181 0 9 (dk_at dksX7_init_0 6 rfl rfl)
theorem dX7_init_9 : decode cX7_init 9 = .ok (.aload_n 0, 1) := dk_42 (dk_at dksX7_init_0 9 rfl rfl)
theorem dX7_init_10 : decode cX7_init 10 = .ok (.iload_n 2, 1) := dk_28 (dk_at dksX7_init_0 10 rfl rfl)
theorem dX7_init_11 : decode cX7_init 11 = .ok (.putfield 15, 3) := dk_181 0 15 (dk_at dksX7_init_0 11 rfl rfl)
theorem dX7_init_14 : decode cX7_init 14 = .ok (.aload_n 0, 1) := dk_42 (dk_at dksX7_init_0 14 rfl rfl)
theorem dX7_init_15 : decode cX7_init 15 = .ok (.iload_n 3, 1) := dk_29 (dk_at dksX7_init_0 15 rfl rfl)
theorem dX7_init_16 : decode cX7_init 16 = .ok (.putfield 18, 3) := dk_181 0 18 (dk_at dksX7_init_0 16 rfl rfl)
theorem dX7_init_19 : decode cX7_init 19 = .ok (.aload_n 0, 1) := dk_42 (dk_at dksX7_init_0 19 rfl rfl)
theorem dX7_init_20 : decode cX7_init 20 = .ok (.iload 4, 2) := dk_21 4 (dk_at dksX7_init_0 20 rfl rfl)
theorem dX7_init_22 : decode cX7_init 22 = .ok (.putfield 21, 3) := dk_181 0 21 (dk_at dksX7_init_1 0 rfl rfl)
theorem dX7_init_25 : decode cX7_init 25 = .ok (.return_, 1) := dk_177 (dk_at dksX7_init_1 3 rfl rfl)
abbrev cX7_from : ByteArray := prog_3_method_2_code
def yX7_from : MethodName := ⟨RX7, "from", "()I"⟩
theorem dX7_from_0 : decode cX7_from 0 = .ok (.aload_n 0, 1) := by decide +kernel
theorem dX7_from_1 : decode cX7_from 1 = .ok (.getfield 9, 3) := by decide +kernel
theorem dX7_from_4 : decode cX7_from 4 = .ok (.ireturn, 1) := by decide +kernel
abbrev cX7_to : ByteArray := prog_3_method_3_code
def yX7_to : MethodName := ⟨RX7, "to", "()I"⟩
theorem dX7_to_0 : decode cX7_to 0 = .ok (.aload_n 0, 1) := by decide +kernel
theorem dX7_to_1 : decode cX7_to 1 = .ok (.getfield 15, 3) := by decide +kernel
theorem dX7_to_4 : decode cX7_to 4 = .ok (.ireturn, 1) := by decide +kernel
abbrev cX7_sings : ByteArray := prog_3_method_5_code
def yX7_sings : MethodName := ⟨RX7, "sings", "()I"⟩
theorem dX7_sings_0 : decode cX7_sings 0 = .ok (.aload_n 0, 1) := by decide +kernel
theorem dX7_sings_1 : decode cX7_sings 1 = .ok (.getfield 18, 3) := by decide +kernel
theorem dX7_sings_4 : decode cX7_sings 4 = .ok (.ireturn, 1) := by decide +kernel
abbrev cX7_weight : ByteArray := prog_3_method_6_code
def yX7_weight : MethodName := ⟨RX7, "weight", "()I"⟩
theorem dX7_weight_0 : decode cX7_weight 0 = .ok (.aload_n 0, 1) := by decide +kernel
theorem dX7_weight_1 : decode cX7_weight 1 = .ok (.getfield 21, 3) := by decide +kernel
theorem dX7_weight_4 : decode cX7_weight 4 = .ok (.ireturn, 1) := by decide +kernel
theorem q99 : (Jvm.Cond.initialized "ChantRules$Breathed") ∈ lw_all := lw_g (lw_at lw_m1 24 rfl) rfl
theorem q287 : (Jvm.Cond.castable "ChantRules$Breathed" "ChantRules$Arc") ∈ lw_tbl := lw_at lw_m1 212 rfl
theorem q288 : (Jvm.Cond.selects "ChantRules$Breathed" ({ cls := "ChantRules$Arc", name := "hears", desc := "()I" } : Jvm.MethodName) ({ cls := "ChantRules$Breathed", name := "hears", desc := "()I" } : Jvm.MethodName)) ∈ lw_all := lw_g (lw_at lw_m1 213 rfl) rfl
theorem q289 : (Jvm.Cond.unhidden "ChantRules$Breathed" "hears" "()I") ∈ lw_tbl := lw_at lw_m1 214 rfl
theorem q290 : (Jvm.Cond.instanceMethod ({ cls := "ChantRules$Breathed", name := "hears", desc := "()I" } : Jvm.MethodName)) ∈ lw_all := lw_g (lw_at lw_m1 215 rfl) rfl
theorem q291 : (Jvm.Cond.publicMethod ({ cls := "ChantRules$Breathed", name := "hears", desc := "()I" } : Jvm.MethodName)) ∈ lw_tbl := lw_at lw_m1 216 rfl
theorem q292 : (Jvm.Cond.code ({ cls := "ChantRules$Breathed", name := "hears", desc := "()I" } : Jvm.MethodName) prog_3_method_4_code (1 : Nat) (Option.some Jvm.ClassFile.FieldType.int)) ∈ lw_all := lw_g (lw_at lw_m1 217 rfl) rfl
theorem q436 : (Jvm.Cond.selects "ChantRules$Breathed" ({ cls := "java/lang/Object", name := "getClass", desc := "()Ljava/lang/Class;" } : Jvm.MethodName) ({ cls := "java/lang/Object", name := "getClass", desc := "()Ljava/lang/Class;" } : Jvm.MethodName)) ∈ lw_all := lw_g (lw_at lw_m2 121 rfl) rfl
theorem q634 : (Jvm.Cond.instantiable "ChantRules$Breathed" (4 : Nat)) ∈ lw_all := lw_g (lw_at lw_m3 79 rfl) rfl
theorem q636 : (Jvm.Cond.instanceMethod ({ cls := "ChantRules$Breathed", name := "<init>", desc := "(IIII)V" } : Jvm.MethodName)) ∈ lw_all := lw_g (lw_at lw_m3 81 rfl) rfl
theorem q637 : (Jvm.Cond.code ({ cls := "ChantRules$Breathed", name := "<init>", desc := "(IIII)V" } : Jvm.MethodName) prog_3_method_1_code (5 : Nat) (Option.none : Option Jvm.ClassFile.FieldType)) ∈ lw_all := lw_g (lw_at lw_m3 82 rfl) rfl
theorem q638 : (Jvm.Cond.methodLink "ChantRules$Breathed" (3 : Nat) ({ cls := "java/lang/Object", name := "<init>", desc := "()V" } : Jvm.MethodName)) ∈ lw_all := lw_g (lw_at lw_m3 83 rfl) rfl
theorem q639 : (Jvm.Cond.fieldLink "ChantRules$Breathed" (9 : Nat) "ChantRules$Breathed" "from" "I") ∈ lw_all := lw_g (lw_at lw_m3 84 rfl) rfl
theorem q641 : (Jvm.Cond.fieldLink "ChantRules$Breathed" (15 : Nat) "ChantRules$Breathed" "to" "I") ∈ lw_all := lw_g (lw_at lw_m3 86 rfl) rfl
theorem q643 : (Jvm.Cond.fieldLink "ChantRules$Breathed" (18 : Nat) "ChantRules$Breathed" "sings" "I") ∈ lw_all := lw_g (lw_at lw_m3 88 rfl) rfl
theorem q645 : (Jvm.Cond.fieldLink "ChantRules$Breathed" (21 : Nat) "ChantRules$Breathed" "weight" "I") ∈ lw_all := lw_g (lw_at lw_m3 90 rfl) rfl
theorem q647 : (Jvm.Cond.laysFinal "ChantRules$Breathed" "ChantRules$Breathed" "from" "I") ∈ lw_all := lw_g (lw_at lw_m3 92 rfl) rfl
theorem q648 : (Jvm.Cond.soleField "ChantRules$Breathed" "from") ∈ lw_all := lw_g (lw_at lw_m3 93 rfl) rfl
theorem q649 : (Jvm.Cond.laysFinal "ChantRules$Breathed" "ChantRules$Breathed" "to" "I") ∈ lw_all := lw_g (lw_at lw_m3 94 rfl) rfl
theorem q650 : (Jvm.Cond.soleField "ChantRules$Breathed" "to") ∈ lw_all := lw_g (lw_at lw_m3 95 rfl) rfl
theorem q651 : (Jvm.Cond.laysFinal "ChantRules$Breathed" "ChantRules$Breathed" "sings" "I") ∈ lw_all := lw_g (lw_at lw_m3 96 rfl) rfl
theorem q652 : (Jvm.Cond.soleField "ChantRules$Breathed" "sings") ∈ lw_all := lw_g (lw_at lw_m3 97 rfl) rfl
theorem q653 : (Jvm.Cond.laysFinal "ChantRules$Breathed" "ChantRules$Breathed" "weight" "I") ∈ lw_all := lw_g (lw_at lw_m3 98 rfl) rfl
theorem q654 : (Jvm.Cond.soleField "ChantRules$Breathed" "weight") ∈ lw_all := lw_g (lw_at lw_m3 99 rfl) rfl
theorem q655 : (Jvm.Cond.superclass "ChantRules$Breathed" "java/lang/Object") ∈ lw_all := lw_g (lw_at lw_m3 100 rfl) rfl
theorem q713 : (Jvm.Cond.selects "ChantRules$Breathed" ({ cls := "ChantRules$Arc", name := "from", desc := "()I" } : Jvm.MethodName) ({ cls := "ChantRules$Breathed", name := "from", desc := "()I" } : Jvm.MethodName)) ∈ lw_all := lw_g (lw_at lw_m3 158 rfl) rfl
theorem q714 : (Jvm.Cond.unhidden "ChantRules$Breathed" "from" "()I") ∈ lw_tbl := lw_at lw_m3 159 rfl
theorem q715 : (Jvm.Cond.instanceMethod ({ cls := "ChantRules$Breathed", name := "from", desc := "()I" } : Jvm.MethodName)) ∈ lw_all := lw_g (lw_at lw_m3 160 rfl) rfl
theorem q716 : (Jvm.Cond.publicMethod ({ cls := "ChantRules$Breathed", name := "from", desc := "()I" } : Jvm.MethodName)) ∈ lw_tbl := lw_at lw_m3 161 rfl
theorem q717 : (Jvm.Cond.code ({ cls := "ChantRules$Breathed", name := "from", desc := "()I" } : Jvm.MethodName) prog_3_method_2_code (1 : Nat) (Option.some Jvm.ClassFile.FieldType.int)) ∈ lw_all := lw_g (lw_at lw_m3 162 rfl) rfl
theorem q727 : (Jvm.Cond.selects "ChantRules$Breathed" ({ cls := "ChantRules$Arc", name := "to", desc := "()I" } : Jvm.MethodName) ({ cls := "ChantRules$Breathed", name := "to", desc := "()I" } : Jvm.MethodName)) ∈ lw_all := lw_g (lw_at lw_m3 172 rfl) rfl
theorem q728 : (Jvm.Cond.unhidden "ChantRules$Breathed" "to" "()I") ∈ lw_tbl := lw_at lw_m3 173 rfl
theorem q729 : (Jvm.Cond.instanceMethod ({ cls := "ChantRules$Breathed", name := "to", desc := "()I" } : Jvm.MethodName)) ∈ lw_all := lw_g (lw_at lw_m3 174 rfl) rfl
theorem q730 : (Jvm.Cond.publicMethod ({ cls := "ChantRules$Breathed", name := "to", desc := "()I" } : Jvm.MethodName)) ∈ lw_tbl := lw_at lw_m3 175 rfl
theorem q731 : (Jvm.Cond.code ({ cls := "ChantRules$Breathed", name := "to", desc := "()I" } : Jvm.MethodName) prog_3_method_3_code (1 : Nat) (Option.some Jvm.ClassFile.FieldType.int)) ∈ lw_all := lw_g (lw_at lw_m3 176 rfl) rfl
theorem q741 : (Jvm.Cond.selects "ChantRules$Breathed" ({ cls := "ChantRules$Arc", name := "sings", desc := "()I" } : Jvm.MethodName) ({ cls := "ChantRules$Breathed", name := "sings", desc := "()I" } : Jvm.MethodName)) ∈ lw_all := lw_g (lw_at lw_m3 186 rfl) rfl
theorem q742 : (Jvm.Cond.unhidden "ChantRules$Breathed" "sings" "()I") ∈ lw_tbl := lw_at lw_m3 187 rfl
theorem q743 : (Jvm.Cond.instanceMethod ({ cls := "ChantRules$Breathed", name := "sings", desc := "()I" } : Jvm.MethodName)) ∈ lw_all := lw_g (lw_at lw_m3 188 rfl) rfl
theorem q744 : (Jvm.Cond.publicMethod ({ cls := "ChantRules$Breathed", name := "sings", desc := "()I" } : Jvm.MethodName)) ∈ lw_tbl := lw_at lw_m3 189 rfl
theorem q745 : (Jvm.Cond.code ({ cls := "ChantRules$Breathed", name := "sings", desc := "()I" } : Jvm.MethodName) prog_3_method_5_code (1 : Nat) (Option.some Jvm.ClassFile.FieldType.int)) ∈ lw_all := lw_g (lw_at lw_m3 190 rfl) rfl
theorem q771 : (Jvm.Cond.selects "ChantRules$Breathed" ({ cls := "ChantRules$Arc", name := "weight", desc := "()I" } : Jvm.MethodName) ({ cls := "ChantRules$Breathed", name := "weight", desc := "()I" } : Jvm.MethodName)) ∈ lw_all := lw_g (lw_at lw_m3 216 rfl) rfl
theorem q772 : (Jvm.Cond.unhidden "ChantRules$Breathed" "weight" "()I") ∈ lw_tbl := lw_at lw_m3 217 rfl
theorem q773 : (Jvm.Cond.instanceMethod ({ cls := "ChantRules$Breathed", name := "weight", desc := "()I" } : Jvm.MethodName)) ∈ lw_all := lw_g (lw_at lw_m3 218 rfl) rfl
theorem q774 : (Jvm.Cond.publicMethod ({ cls := "ChantRules$Breathed", name := "weight", desc := "()I" } : Jvm.MethodName)) ∈ lw_tbl := lw_at lw_m3 219 rfl
theorem q775 : (Jvm.Cond.code ({ cls := "ChantRules$Breathed", name := "weight", desc := "()I" } : Jvm.MethodName) prog_3_method_6_code (1 : Nat) (Option.some Jvm.ClassFile.FieldType.int)) ∈ lw_all := lw_g (lw_at lw_m3 220 rfl) rfl
theorem q2375 : (Jvm.Cond.castable "ChantRules$Breathed" "java/lang/Object") ∈ lw_tbl := lw_at lw_m10 140 rfl
theorem in_X7 : ∀ w ∈ wsX70, w ∈ lw_all := lw_in wsX70 [647, 649, 651, 653] (by decide +kernel) (by decide +kernel)
/-! ChantRules$Heard -/
set_option maxRecDepth 100000
def RX8 : String := "ChantRules$Heard"
def TX8 : u_T := fun k => match k with
  | 0 => ("ChantRules$Heard", "from", "I", true)
  | 1 => ("ChantRules$Heard", "to", "I", true)
  | 2 => ("ChantRules$Heard", "letter", "I", true)
  | 3 => ("ChantRules$Heard", "sings", "I", true)
  | _ => ("ChantRules$Heard", "weight", "I", true)
def tyX8 : Nat → FieldType := fun k => match k with
  | 0 => .int
  | 1 => .int
  | 2 => .int
  | 3 => .int
  | _ => .int
abbrev wsX80 : List Cond := u_ws RX8 TX8 5
theorem nmX8 : ∀ a, a < 5 → ∀ b, b < 5 → a ≠ b → (TX8 a).2.1 ≠ (TX8 b).2.1 := by decide +kernel
theorem tyX8_ok : ∀ k, k < 5 → parseFieldDescriptor (TX8 k).2.2.1 = some (tyX8 k) := by decide +kernel
abbrev cX8_hears : ByteArray := prog_7_method_4_code
def yX8_hears : MethodName := ⟨RX8, "hears", "()I"⟩
theorem dX8_hears_0 : decode cX8_hears 0 = .ok (.aload_n 0, 1) := by decide +kernel
theorem dX8_hears_1 : decode cX8_hears 1 = .ok (.getfield 16, 3) := by decide +kernel
theorem dX8_hears_4 : decode cX8_hears 4 = .ok (.ireturn, 1) := by decide +kernel
abbrev cX8_init : ByteArray := prog_7_method_1_code
def yX8_init : MethodName := ⟨RX8, "<init>", "(IIIII)V"⟩
def dkwX8_init_1 : List UInt8 := [181, 0, 19, 42, 21, 5, 181, 0, 22, 177]
abbrev dktX8_init_1 : List UInt8 := dkwX8_init_1 ++ []
def dkwX8_init_0 : List UInt8 := [42, 183, 0, 1, 42, 27, 181, 0, 7, 42, 28, 181, 0, 13, 42, 29, 181, 0, 16, 42, 21, 4]
abbrev dktX8_init_0 : List UInt8 := dkwX8_init_0 ++ dktX8_init_1
theorem dksX8_init_0 : cX8_init.data.toList.drop 0 = dktX8_init_0 := by decide +kernel
theorem dksX8_init_1 : cX8_init.data.toList.drop 22 = dktX8_init_1 := dk_seg dksX8_init_0 22 rfl rfl
theorem dX8_init_0 : decode cX8_init 0 = .ok (.aload_n 0, 1) := dk_42 (dk_at dksX8_init_0 0 rfl rfl)
theorem dX8_init_1 : decode cX8_init 1 = .ok (.invokespecial 1, 3) := dk_183 0 1 (dk_at dksX8_init_0 1 rfl rfl)
theorem dX8_init_4 : decode cX8_init 4 = .ok (.aload_n 0, 1) := dk_42 (dk_at dksX8_init_0 4 rfl rfl)
theorem dX8_init_5 : decode cX8_init 5 = .ok (.iload_n 1, 1) := dk_27 (dk_at dksX8_init_0 5 rfl rfl)
theorem dX8_init_6 : decode cX8_init 6 = .ok (.putfield 7, 3) := dk_181 0 7 (dk_at dksX8_init_0 6 rfl rfl)
theorem dX8_init_9 : decode cX8_init 9 = .ok (.aload_n 0, 1) := dk_42 (dk_at dksX8_init_0 9 rfl rfl)
theorem dX8_init_10 : decode cX8_init 10 = .ok (.iload_n 2, 1) := dk_28 (dk_at dksX8_init_0 10 rfl rfl)
theorem dX8_init_11 : decode cX8_init 11 = .ok (.putfield 13, 3) := dk_181 0 13 (dk_at dksX8_init_0 11 rfl rfl)
theorem dX8_init_14 : decode cX8_init 14 = .ok (.aload_n 0, 1) := dk_42 (dk_at dksX8_init_0 14 rfl rfl)
theorem dX8_init_15 : decode cX8_init 15 = .ok (.iload_n 3, 1) := dk_29 (dk_at dksX8_init_0 15 rfl rfl)
theorem dX8_init_16 : decode cX8_init 16 = .ok (.putfield 16, 3) := dk_181 0 16 (dk_at dksX8_init_0 16 rfl rfl)
theorem dX8_init_19 : decode cX8_init 19 = .ok (.aload_n 0, 1) := dk_42 (dk_at dksX8_init_0 19 rfl rfl)
theorem dX8_init_20 : decode cX8_init 20 = .ok (.iload 4, 2) := dk_21 4 (dk_at dksX8_init_0 20 rfl rfl)
theorem dX8_init_22 : decode cX8_init 22 = .ok (.putfield 19, 3) := dk_181 0 19 (dk_at dksX8_init_1 0 rfl rfl)
theorem dX8_init_25 : decode cX8_init 25 = .ok (.aload_n 0, 1) := dk_42 (dk_at dksX8_init_1 3 rfl rfl)
theorem dX8_init_26 : decode cX8_init 26 = .ok (.iload 5, 2) := dk_21 5 (dk_at dksX8_init_1 4 rfl rfl)
theorem dX8_init_28 : decode cX8_init 28 = .ok (.putfield 22, 3) := dk_181 0 22 (dk_at dksX8_init_1 6 rfl rfl)
theorem dX8_init_31 : decode cX8_init 31 = .ok (.return_, 1) := dk_177 (dk_at dksX8_init_1 9 rfl rfl)
abbrev cX8_from : ByteArray := prog_7_method_2_code
def yX8_from : MethodName := ⟨RX8, "from", "()I"⟩
theorem dX8_from_0 : decode cX8_from 0 = .ok (.aload_n 0, 1) := by decide +kernel
theorem dX8_from_1 : decode cX8_from 1 = .ok (.getfield 7, 3) := by decide +kernel
theorem dX8_from_4 : decode cX8_from 4 = .ok (.ireturn, 1) := by decide +kernel
abbrev cX8_to : ByteArray := prog_7_method_3_code
def yX8_to : MethodName := ⟨RX8, "to", "()I"⟩
theorem dX8_to_0 : decode cX8_to 0 = .ok (.aload_n 0, 1) := by decide +kernel
theorem dX8_to_1 : decode cX8_to 1 = .ok (.getfield 13, 3) := by decide +kernel
theorem dX8_to_4 : decode cX8_to 4 = .ok (.ireturn, 1) := by decide +kernel
abbrev cX8_sings : ByteArray := prog_7_method_5_code
def yX8_sings : MethodName := ⟨RX8, "sings", "()I"⟩
theorem dX8_sings_0 : decode cX8_sings 0 = .ok (.aload_n 0, 1) := by decide +kernel
theorem dX8_sings_1 : decode cX8_sings 1 = .ok (.getfield 19, 3) := by decide +kernel
theorem dX8_sings_4 : decode cX8_sings 4 = .ok (.ireturn, 1) := by decide +kernel
abbrev cX8_weight : ByteArray := prog_7_method_6_code
def yX8_weight : MethodName := ⟨RX8, "weight", "()I"⟩
theorem dX8_weight_0 : decode cX8_weight 0 = .ok (.aload_n 0, 1) := by decide +kernel
theorem dX8_weight_1 : decode cX8_weight 1 = .ok (.getfield 22, 3) := by decide +kernel
theorem dX8_weight_4 : decode cX8_weight 4 = .ok (.ireturn, 1) := by decide +kernel
theorem q100 : (Jvm.Cond.initialized "ChantRules$Heard") ∈ lw_all := lw_g (lw_at lw_m1 25 rfl) rfl
theorem q293 : (Jvm.Cond.castable "ChantRules$Heard" "ChantRules$Arc") ∈ lw_tbl := lw_at lw_m1 218 rfl
theorem q294 : (Jvm.Cond.selects "ChantRules$Heard" ({ cls := "ChantRules$Arc", name := "hears", desc := "()I" } : Jvm.MethodName) ({ cls := "ChantRules$Heard", name := "hears", desc := "()I" } : Jvm.MethodName)) ∈ lw_all := lw_g (lw_at lw_m1 219 rfl) rfl
theorem q295 : (Jvm.Cond.unhidden "ChantRules$Heard" "hears" "()I") ∈ lw_tbl := lw_at lw_m1 220 rfl
theorem q296 : (Jvm.Cond.instanceMethod ({ cls := "ChantRules$Heard", name := "hears", desc := "()I" } : Jvm.MethodName)) ∈ lw_all := lw_g (lw_at lw_m1 221 rfl) rfl
theorem q297 : (Jvm.Cond.publicMethod ({ cls := "ChantRules$Heard", name := "hears", desc := "()I" } : Jvm.MethodName)) ∈ lw_tbl := lw_at lw_m1 222 rfl
theorem q298 : (Jvm.Cond.code ({ cls := "ChantRules$Heard", name := "hears", desc := "()I" } : Jvm.MethodName) prog_7_method_4_code (1 : Nat) (Option.some Jvm.ClassFile.FieldType.int)) ∈ lw_all := lw_g (lw_at lw_m1 223 rfl) rfl
theorem q440 : (Jvm.Cond.selects "ChantRules$Heard" ({ cls := "java/lang/Object", name := "getClass", desc := "()Ljava/lang/Class;" } : Jvm.MethodName) ({ cls := "java/lang/Object", name := "getClass", desc := "()Ljava/lang/Class;" } : Jvm.MethodName)) ∈ lw_all := lw_g (lw_at lw_m2 125 rfl) rfl
theorem q657 : (Jvm.Cond.instantiable "ChantRules$Heard" (5 : Nat)) ∈ lw_all := lw_g (lw_at lw_m3 102 rfl) rfl
theorem q659 : (Jvm.Cond.instanceMethod ({ cls := "ChantRules$Heard", name := "<init>", desc := "(IIIII)V" } : Jvm.MethodName)) ∈ lw_all := lw_g (lw_at lw_m3 104 rfl) rfl
theorem q660 : (Jvm.Cond.code ({ cls := "ChantRules$Heard", name := "<init>", desc := "(IIIII)V" } : Jvm.MethodName) prog_7_method_1_code (6 : Nat) (Option.none : Option Jvm.ClassFile.FieldType)) ∈ lw_all := lw_g (lw_at lw_m3 105 rfl) rfl
theorem q661 : (Jvm.Cond.methodLink "ChantRules$Heard" (1 : Nat) ({ cls := "java/lang/Object", name := "<init>", desc := "()V" } : Jvm.MethodName)) ∈ lw_all := lw_g (lw_at lw_m3 106 rfl) rfl
theorem q662 : (Jvm.Cond.fieldLink "ChantRules$Heard" (7 : Nat) "ChantRules$Heard" "from" "I") ∈ lw_all := lw_g (lw_at lw_m3 107 rfl) rfl
theorem q663 : (Jvm.Cond.fieldLink "ChantRules$Heard" (13 : Nat) "ChantRules$Heard" "to" "I") ∈ lw_all := lw_g (lw_at lw_m3 108 rfl) rfl
theorem q664 : (Jvm.Cond.fieldLink "ChantRules$Heard" (16 : Nat) "ChantRules$Heard" "letter" "I") ∈ lw_all := lw_g (lw_at lw_m3 109 rfl) rfl
theorem q667 : (Jvm.Cond.fieldLink "ChantRules$Heard" (19 : Nat) "ChantRules$Heard" "sings" "I") ∈ lw_all := lw_g (lw_at lw_m3 112 rfl) rfl
theorem q668 : (Jvm.Cond.fieldLink "ChantRules$Heard" (22 : Nat) "ChantRules$Heard" "weight" "I") ∈ lw_all := lw_g (lw_at lw_m3 113 rfl) rfl
theorem q669 : (Jvm.Cond.laysFinal "ChantRules$Heard" "ChantRules$Heard" "from" "I") ∈ lw_all := lw_g (lw_at lw_m3 114 rfl) rfl
theorem q670 : (Jvm.Cond.soleField "ChantRules$Heard" "from") ∈ lw_all := lw_g (lw_at lw_m3 115 rfl) rfl
theorem q671 : (Jvm.Cond.laysFinal "ChantRules$Heard" "ChantRules$Heard" "to" "I") ∈ lw_all := lw_g (lw_at lw_m3 116 rfl) rfl
theorem q672 : (Jvm.Cond.soleField "ChantRules$Heard" "to") ∈ lw_all := lw_g (lw_at lw_m3 117 rfl) rfl
theorem q673 : (Jvm.Cond.laysFinal "ChantRules$Heard" "ChantRules$Heard" "letter" "I") ∈ lw_all := lw_g (lw_at lw_m3 118 rfl) rfl
theorem q674 : (Jvm.Cond.soleField "ChantRules$Heard" "letter") ∈ lw_all := lw_g (lw_at lw_m3 119 rfl) rfl
theorem q675 : (Jvm.Cond.laysFinal "ChantRules$Heard" "ChantRules$Heard" "sings" "I") ∈ lw_all := lw_g (lw_at lw_m3 120 rfl) rfl
theorem q676 : (Jvm.Cond.soleField "ChantRules$Heard" "sings") ∈ lw_all := lw_g (lw_at lw_m3 121 rfl) rfl
theorem q677 : (Jvm.Cond.laysFinal "ChantRules$Heard" "ChantRules$Heard" "weight" "I") ∈ lw_all := lw_g (lw_at lw_m3 122 rfl) rfl
theorem q678 : (Jvm.Cond.soleField "ChantRules$Heard" "weight") ∈ lw_all := lw_g (lw_at lw_m3 123 rfl) rfl
theorem q679 : (Jvm.Cond.superclass "ChantRules$Heard" "java/lang/Object") ∈ lw_all := lw_g (lw_at lw_m3 124 rfl) rfl
theorem q718 : (Jvm.Cond.selects "ChantRules$Heard" ({ cls := "ChantRules$Arc", name := "from", desc := "()I" } : Jvm.MethodName) ({ cls := "ChantRules$Heard", name := "from", desc := "()I" } : Jvm.MethodName)) ∈ lw_all := lw_g (lw_at lw_m3 163 rfl) rfl
theorem q719 : (Jvm.Cond.unhidden "ChantRules$Heard" "from" "()I") ∈ lw_tbl := lw_at lw_m3 164 rfl
theorem q720 : (Jvm.Cond.instanceMethod ({ cls := "ChantRules$Heard", name := "from", desc := "()I" } : Jvm.MethodName)) ∈ lw_all := lw_g (lw_at lw_m3 165 rfl) rfl
theorem q721 : (Jvm.Cond.publicMethod ({ cls := "ChantRules$Heard", name := "from", desc := "()I" } : Jvm.MethodName)) ∈ lw_tbl := lw_at lw_m3 166 rfl
theorem q722 : (Jvm.Cond.code ({ cls := "ChantRules$Heard", name := "from", desc := "()I" } : Jvm.MethodName) prog_7_method_2_code (1 : Nat) (Option.some Jvm.ClassFile.FieldType.int)) ∈ lw_all := lw_g (lw_at lw_m3 167 rfl) rfl
theorem q732 : (Jvm.Cond.selects "ChantRules$Heard" ({ cls := "ChantRules$Arc", name := "to", desc := "()I" } : Jvm.MethodName) ({ cls := "ChantRules$Heard", name := "to", desc := "()I" } : Jvm.MethodName)) ∈ lw_all := lw_g (lw_at lw_m3 177 rfl) rfl
theorem q733 : (Jvm.Cond.unhidden "ChantRules$Heard" "to" "()I") ∈ lw_tbl := lw_at lw_m3 178 rfl
theorem q734 : (Jvm.Cond.instanceMethod ({ cls := "ChantRules$Heard", name := "to", desc := "()I" } : Jvm.MethodName)) ∈ lw_all := lw_g (lw_at lw_m3 179 rfl) rfl
theorem q735 : (Jvm.Cond.publicMethod ({ cls := "ChantRules$Heard", name := "to", desc := "()I" } : Jvm.MethodName)) ∈ lw_tbl := lw_at lw_m3 180 rfl
theorem q736 : (Jvm.Cond.code ({ cls := "ChantRules$Heard", name := "to", desc := "()I" } : Jvm.MethodName) prog_7_method_3_code (1 : Nat) (Option.some Jvm.ClassFile.FieldType.int)) ∈ lw_all := lw_g (lw_at lw_m3 181 rfl) rfl
theorem q746 : (Jvm.Cond.selects "ChantRules$Heard" ({ cls := "ChantRules$Arc", name := "sings", desc := "()I" } : Jvm.MethodName) ({ cls := "ChantRules$Heard", name := "sings", desc := "()I" } : Jvm.MethodName)) ∈ lw_all := lw_g (lw_at lw_m3 191 rfl) rfl
theorem q747 : (Jvm.Cond.unhidden "ChantRules$Heard" "sings" "()I") ∈ lw_tbl := lw_at lw_m3 192 rfl
theorem q748 : (Jvm.Cond.instanceMethod ({ cls := "ChantRules$Heard", name := "sings", desc := "()I" } : Jvm.MethodName)) ∈ lw_all := lw_g (lw_at lw_m3 193 rfl) rfl
theorem q749 : (Jvm.Cond.publicMethod ({ cls := "ChantRules$Heard", name := "sings", desc := "()I" } : Jvm.MethodName)) ∈ lw_tbl := lw_at lw_m3 194 rfl
theorem q750 : (Jvm.Cond.code ({ cls := "ChantRules$Heard", name := "sings", desc := "()I" } : Jvm.MethodName) prog_7_method_5_code (1 : Nat) (Option.some Jvm.ClassFile.FieldType.int)) ∈ lw_all := lw_g (lw_at lw_m3 195 rfl) rfl
theorem q776 : (Jvm.Cond.selects "ChantRules$Heard" ({ cls := "ChantRules$Arc", name := "weight", desc := "()I" } : Jvm.MethodName) ({ cls := "ChantRules$Heard", name := "weight", desc := "()I" } : Jvm.MethodName)) ∈ lw_all := lw_g (lw_at lw_m3 221 rfl) rfl
theorem q777 : (Jvm.Cond.unhidden "ChantRules$Heard" "weight" "()I") ∈ lw_tbl := lw_at lw_m3 222 rfl
theorem q778 : (Jvm.Cond.instanceMethod ({ cls := "ChantRules$Heard", name := "weight", desc := "()I" } : Jvm.MethodName)) ∈ lw_all := lw_g (lw_at lw_m3 223 rfl) rfl
theorem q779 : (Jvm.Cond.publicMethod ({ cls := "ChantRules$Heard", name := "weight", desc := "()I" } : Jvm.MethodName)) ∈ lw_tbl := lw_at lw_m3 224 rfl
theorem q780 : (Jvm.Cond.code ({ cls := "ChantRules$Heard", name := "weight", desc := "()I" } : Jvm.MethodName) prog_7_method_6_code (1 : Nat) (Option.some Jvm.ClassFile.FieldType.int)) ∈ lw_all := lw_g (lw_at lw_m3 225 rfl) rfl
theorem q2376 : (Jvm.Cond.castable "ChantRules$Heard" "java/lang/Object") ∈ lw_tbl := lw_at lw_m10 141 rfl
theorem in_X8 : ∀ w ∈ wsX80, w ∈ lw_all := lw_in wsX80 [669, 671, 673, 675, 677] (by decide +kernel) (by decide +kernel)
/-! ChantRules$Way -/
set_option maxRecDepth 100000
def RX9 : String := "ChantRules$Way"
def TX9 : u_T := fun k => match k with
  | 0 => ("ChantRules$Way", "weight", "I", true)
  | _ => ("ChantRules$Way", "song", "LChantRules$Letter;", true)
def tyX9 : Nat → FieldType := fun k => match k with
  | 0 => .int
  | _ => .object "ChantRules$Letter"
abbrev wsX90 : List Cond := u_ws RX9 TX9 2
theorem nmX9 : ∀ a, a < 2 → ∀ b, b < 2 → a ≠ b → (TX9 a).2.1 ≠ (TX9 b).2.1 := by decide +kernel
theorem tyX9_ok : ∀ k, k < 2 → parseFieldDescriptor (TX9 k).2.2.1 = some (tyX9 k) := by decide +kernel
abbrev cX9_init : ByteArray := prog_16_method_1_code
def yX9_init : MethodName := ⟨RX9, "<init>", "(ILChantRules$Letter;)V"⟩
def dkwX9_init_0 : List UInt8 := [42, 183, 0, 3, 42, 27, 181, 0, 9, 42, 44, 181, 0, 15, 177]
abbrev dktX9_init_0 : List UInt8 := dkwX9_init_0 ++ []
theorem dksX9_init_0 : cX9_init.data.toList.drop 0 = dktX9_init_0 := by decide +kernel
theorem dX9_init_0 : decode cX9_init 0 = .ok (.aload_n 0, 1) := dk_42 (dk_at dksX9_init_0 0 rfl rfl)
theorem dX9_init_1 : decode cX9_init 1 = .ok (.invokespecial 3, 3) := dk_183 0 3 (dk_at dksX9_init_0 1 rfl rfl)
theorem dX9_init_4 : decode cX9_init 4 = .ok (.aload_n 0, 1) := dk_42 (dk_at dksX9_init_0 4 rfl rfl)
theorem dX9_init_5 : decode cX9_init 5 = .ok (.iload_n 1, 1) := dk_27 (dk_at dksX9_init_0 5 rfl rfl)
theorem dX9_init_6 : decode cX9_init 6 = .ok (.putfield 9, 3) := dk_181 0 9 (dk_at dksX9_init_0 6 rfl rfl)
theorem dX9_init_9 : decode cX9_init 9 = .ok (.aload_n 0, 1) := dk_42 (dk_at dksX9_init_0 9 rfl rfl)
theorem dX9_init_10 : decode cX9_init 10 = .ok (.aload_n 2, 1) := dk_44 (dk_at dksX9_init_0 10 rfl rfl)
theorem dX9_init_11 : decode cX9_init 11 = .ok (.putfield 15, 3) := dk_181 0 15 (dk_at dksX9_init_0 11 rfl rfl)
theorem dX9_init_14 : decode cX9_init 14 = .ok (.return_, 1) := dk_177 (dk_at dksX9_init_0 14 rfl rfl)
abbrev cX9_isLess : ByteArray := prog_16_method_2_code
def yX9_isLess : MethodName := ⟨RX9, "isLess", "(IILChantRules$Way;)Z"⟩
def dkwX9_isLess_4 : List UInt8 := [42, 180, 0, 15, 28, 45, 180, 0, 15, 184, 0, 25, 172]
abbrev dktX9_isLess_4 : List UInt8 := dkwX9_isLess_4 ++ []
def dkwX9_isLess_3 : List UInt8 := [54, 5, 21, 4, 21, 5, 159, 0, 18, 21, 4, 21, 5, 162, 0, 7, 4, 167, 0, 19, 3, 167, 0, 15]
abbrev dktX9_isLess_3 : List UInt8 := dkwX9_isLess_3 ++ dktX9_isLess_4
def dkwX9_isLess_2 : List UInt8 := [184, 0, 19, 28, 7, 160, 0, 7, 3, 167, 0, 4, 4, 96, 54, 4, 45, 180, 0, 15, 184, 0, 19]
abbrev dktX9_isLess_2 : List UInt8 := dkwX9_isLess_2 ++ dktX9_isLess_3
def dkwX9_isLess_1 : List UInt8 := [180, 0, 9, 27, 96, 45, 180, 0, 9, 162, 0, 7, 4, 167, 0, 4, 3, 172, 42, 180, 0, 15]
abbrev dktX9_isLess_1 : List UInt8 := dkwX9_isLess_1 ++ dktX9_isLess_2
def dkwX9_isLess_0 : List UInt8 := [45, 198, 0, 16, 42, 180, 0, 9, 27, 96, 45, 180, 0, 9, 159, 0, 26, 45, 198, 0, 16, 42]
abbrev dktX9_isLess_0 : List UInt8 := dkwX9_isLess_0 ++ dktX9_isLess_1
theorem dksX9_isLess_0 : cX9_isLess.data.toList.drop 0 = dktX9_isLess_0 := by decide +kernel
theorem dksX9_isLess_1 : cX9_isLess.data.toList.drop 22 = dktX9_isLess_1 := dk_seg dksX9_isLess_0 22 rfl rfl
theorem dksX9_isLess_2 : cX9_isLess.data.toList.drop 44 = dktX9_isLess_2 := dk_seg dksX9_isLess_1 22 rfl rfl
theorem dksX9_isLess_3 : cX9_isLess.data.toList.drop 67 = dktX9_isLess_3 := dk_seg dksX9_isLess_2 23 rfl rfl
theorem dksX9_isLess_4 : cX9_isLess.data.toList.drop 91 = dktX9_isLess_4 := dk_seg dksX9_isLess_3 24 rfl rfl
theorem dX9_isLess_0 : decode cX9_isLess 0 = .ok (.aload_n 3, 1) := dk_45 (dk_at dksX9_isLess_0 0 rfl rfl)
theorem dX9_isLess_1 : decode cX9_isLess 1 = .ok (.ifnull 16, 3) := dk_198 0 16 (dk_at dksX9_isLess_0 1 rfl rfl)
theorem dX9_isLess_4 : decode cX9_isLess 4 = .ok (.aload_n 0, 1) := dk_42 (dk_at dksX9_isLess_0 4 rfl rfl)
theorem dX9_isLess_5 : decode cX9_isLess 5 = .ok (.getfield 9, 3) := dk_180 0 9 (dk_at dksX9_isLess_0 5 rfl rfl)
theorem dX9_isLess_8 : decode cX9_isLess 8 = .ok (.iload_n 1, 1) := dk_27 (dk_at dksX9_isLess_0 8 rfl rfl)
theorem dX9_isLess_9 : decode cX9_isLess 9 = .ok (.iadd, 1) := dk_96 (dk_at dksX9_isLess_0 9 rfl rfl)
theorem dX9_isLess_10 : decode cX9_isLess 10 = .ok (.aload_n 3, 1) := dk_45 (dk_at dksX9_isLess_0 10 rfl rfl)
theorem dX9_isLess_11 : decode cX9_isLess 11 = .ok (.getfield 9, 3) := dk_180 0 9 (dk_at dksX9_isLess_0 11 rfl rfl)
theorem dX9_isLess_14 : decode cX9_isLess 14 = .ok (.if_icmp .eq 26, 3) := dk_159 0 26 (dk_at dksX9_isLess_0 14 rfl rfl)
theorem dX9_isLess_17 : decode cX9_isLess 17 = .ok (.aload_n 3, 1) := dk_45 (dk_at dksX9_isLess_0 17 rfl rfl)
theorem dX9_isLess_18 : decode cX9_isLess 18 = .ok (.ifnull 16, 3) := dk_198 0 16 (dk_at dksX9_isLess_0 18 rfl rfl)
theorem dX9_isLess_21 : decode cX9_isLess 21 = .ok (.aload_n 0, 1) := dk_42 (dk_at dksX9_isLess_0 21 rfl rfl)
theorem dX9_isLess_22 : decode cX9_isLess 22 = .ok (.getfield 9, 3) := dk_180 0 9 (dk_at dksX9_isLess_1 0 rfl rfl)
theorem dX9_isLess_25 : decode cX9_isLess 25 = .ok (.iload_n 1, 1) := dk_27 (dk_at dksX9_isLess_1 3 rfl rfl)
theorem dX9_isLess_26 : decode cX9_isLess 26 = .ok (.iadd, 1) := dk_96 (dk_at dksX9_isLess_1 4 rfl rfl)
theorem dX9_isLess_27 : decode cX9_isLess 27 = .ok (.aload_n 3, 1) := dk_45 (dk_at dksX9_isLess_1 5 rfl rfl)
theorem dX9_isLess_28 : decode cX9_isLess 28 = .ok (.getfield 9, 3) := dk_180 0 9 (dk_at dksX9_isLess_1 6 rfl rfl)
theorem dX9_isLess_31 : decode cX9_isLess 31 = .ok (.if_icmp .ge 7, 3) := dk_162 0 7 (dk_at dksX9_isLess_1 9 rfl rfl)
theorem dX9_isLess_34 : decode cX9_isLess 34 = .ok (.iconst 1, 1) := dk_4 (dk_at dksX9_isLess_1 12 rfl rfl)
theorem dX9_isLess_35 : decode cX9_isLess 35 = .ok (.goto 4, 3) := dk_167 0 4 (dk_at dksX9_isLess_1 13 rfl rfl)
theorem dX9_isLess_38 : decode cX9_isLess 38 = .ok (.iconst 0, 1) := dk_3 (dk_at dksX9_isLess_1 16 rfl rfl)
theorem dX9_isLess_39 : decode cX9_isLess 39 = .ok (.ireturn, 1) := dk_172 (dk_at dksX9_isLess_1 17 rfl rfl)
theorem dX9_isLess_40 : decode cX9_isLess 40 = .ok (.aload_n 0, 1) := dk_42 (dk_at dksX9_isLess_1 18 rfl rfl)
theorem dX9_isLess_41 : decode cX9_isLess 41 = .ok (.getfield 15, 3) := dk_180 0 15 (dk_at dksX9_isLess_1 19 rfl rfl)
theorem dX9_isLess_44 : decode cX9_isLess 44 = .ok (.invokestatic 19, 3) := dk_184 0 19 (dk_at dksX9_isLess_2 0 rfl rfl)
theorem dX9_isLess_47 : decode cX9_isLess 47 = .ok (.iload_n 2, 1) := dk_28 (dk_at dksX9_isLess_2 3 rfl rfl)
theorem dX9_isLess_48 : decode cX9_isLess 48 = .ok (.iconst 4, 1) := dk_7 (dk_at dksX9_isLess_2 4 rfl rfl)
theorem dX9_isLess_49 : decode cX9_isLess 49 = .ok (.if_icmp .ne 7, 3) := dk_160 0 7 (dk_at dksX9_isLess_2 5 rfl rfl)
theorem dX9_isLess_52 : decode cX9_isLess 52 = .ok (.iconst 0, 1) := dk_3 (dk_at dksX9_isLess_2 8 rfl rfl)
theorem dX9_isLess_53 : decode cX9_isLess 53 = .ok (.goto 4, 3) := dk_167 0 4 (dk_at dksX9_isLess_2 9 rfl rfl)
theorem dX9_isLess_56 : decode cX9_isLess 56 = .ok (.iconst 1, 1) := dk_4 (dk_at dksX9_isLess_2 12 rfl rfl)
theorem dX9_isLess_57 : decode cX9_isLess 57 = .ok (.iadd, 1) := dk_96 (dk_at dksX9_isLess_2 13 rfl rfl)
theorem dX9_isLess_58 : decode cX9_isLess 58 = .ok (.istore 4, 2) := dk_54 4 (dk_at dksX9_isLess_2 14 rfl rfl)
theorem dX9_isLess_60 : decode cX9_isLess 60 = .ok (.aload_n 3, 1) := dk_45 (dk_at dksX9_isLess_2 16 rfl rfl)
theorem dX9_isLess_61 : decode cX9_isLess 61 = .ok (.getfield 15, 3) := dk_180 0 15 (dk_at dksX9_isLess_2 17 rfl rfl)
theorem dX9_isLess_64 : decode cX9_isLess 64 = .ok (.invokestatic 19, 3) := dk_184 0 19 (dk_at dksX9_isLess_2 20 rfl rfl)
theorem dX9_isLess_67 : decode cX9_isLess 67 = .ok (.istore 5, 2) := dk_54 5 (dk_at dksX9_isLess_3 0 rfl rfl)
theorem dX9_isLess_69 : decode cX9_isLess 69 = .ok (.iload 4, 2) := dk_21 4 (dk_at dksX9_isLess_3 2 rfl rfl)
theorem dX9_isLess_71 : decode cX9_isLess 71 = .ok (.iload 5, 2) := dk_21 5 (dk_at dksX9_isLess_3 4 rfl rfl)
theorem dX9_isLess_73 : decode cX9_isLess 73 = .ok (.if_icmp .eq 18, 3) := dk_159 0 18 (dk_at dksX9_isLess_3 6 rfl rfl)
theorem dX9_isLess_76 : decode cX9_isLess 76 = .ok (.iload 4, 2) := dk_21 4 (dk_at dksX9_isLess_3 9 rfl rfl)
theorem dX9_isLess_78 : decode cX9_isLess 78 = .ok (.iload 5, 2) := dk_21 5 (dk_at dksX9_isLess_3 11 rfl rfl)
theorem dX9_isLess_80 : decode cX9_isLess 80 = .ok (.if_icmp .ge 7, 3) := dk_162 0 7 (dk_at dksX9_isLess_3 13 rfl rfl)
theorem dX9_isLess_83 : decode cX9_isLess 83 = .ok (.iconst 1, 1) := dk_4 (dk_at dksX9_isLess_3 16 rfl rfl)
theorem dX9_isLess_84 : decode cX9_isLess 84 = .ok (.goto 19, 3) := dk_167 0 19 (dk_at dksX9_isLess_3 17 rfl rfl)
theorem dX9_isLess_87 : decode cX9_isLess 87 = .ok (.iconst 0, 1) := dk_3 (dk_at dksX9_isLess_3 20 rfl rfl)
theorem dX9_isLess_88 : decode cX9_isLess 88 = .ok (.goto 15, 3) := dk_167 0 15 (dk_at dksX9_isLess_3 21 rfl rfl)
theorem dX9_isLess_91 : decode cX9_isLess 91 = .ok (.aload_n 0, 1) := dk_42 (dk_at dksX9_isLess_4 0 rfl rfl)
theorem dX9_isLess_92 : decode cX9_isLess 92 = .ok (.getfield 15, 3) := dk_180 0 15 (dk_at dksX9_isLess_4 1 rfl rfl)
theorem dX9_isLess_95 : decode cX9_isLess 95 = .ok (.iload_n 2, 1) := dk_28 (dk_at dksX9_isLess_4 4 rfl rfl)
theorem dX9_isLess_96 : decode cX9_isLess 96 = .ok (.aload_n 3, 1) := dk_45 (dk_at dksX9_isLess_4 5 rfl rfl)
theorem dX9_isLess_97 : decode cX9_isLess 97 = .ok (.getfield 15, 3) := dk_180 0 15 (dk_at dksX9_isLess_4 6 rfl rfl)
theorem dX9_isLess_100 : decode cX9_isLess 100 = .ok (.invokestatic 25, 3) := dk_184 0 25 (dk_at dksX9_isLess_4 9 rfl rfl)
theorem dX9_isLess_103 : decode cX9_isLess 103 = .ok (.ireturn, 1) := dk_172 (dk_at dksX9_isLess_4 12 rfl rfl)
abbrev cX9_over : ByteArray := prog_16_method_3_code
def yX9_over : MethodName := ⟨RX9, "over", "(II)LChantRules$Way;"⟩
def dkwX9_over_1 : List UInt8 := [187, 0, 20, 89, 42, 180, 0, 15, 28, 183, 0, 29, 183, 0, 32, 176]
abbrev dktX9_over_1 : List UInt8 := dkwX9_over_1 ++ []
def dkwX9_over_0 : List UInt8 := [187, 0, 10, 89, 42, 180, 0, 9, 27, 96, 28, 7, 160, 0, 10, 42, 180, 0, 15, 167, 0, 15]
abbrev dktX9_over_0 : List UInt8 := dkwX9_over_0 ++ dktX9_over_1
theorem dksX9_over_0 : cX9_over.data.toList.drop 0 = dktX9_over_0 := by decide +kernel
theorem dksX9_over_1 : cX9_over.data.toList.drop 22 = dktX9_over_1 := dk_seg dksX9_over_0 22 rfl rfl
theorem dX9_over_0 : decode cX9_over 0 = .ok (.new 10, 3) := dk_187 0 10 (dk_at dksX9_over_0 0 rfl rfl)
theorem dX9_over_3 : decode cX9_over 3 = .ok (.dup, 1) := dk_89 (dk_at dksX9_over_0 3 rfl rfl)
theorem dX9_over_4 : decode cX9_over 4 = .ok (.aload_n 0, 1) := dk_42 (dk_at dksX9_over_0 4 rfl rfl)
theorem dX9_over_5 : decode cX9_over 5 = .ok (.getfield 9, 3) := dk_180 0 9 (dk_at dksX9_over_0 5 rfl rfl)
theorem dX9_over_8 : decode cX9_over 8 = .ok (.iload_n 1, 1) := dk_27 (dk_at dksX9_over_0 8 rfl rfl)
theorem dX9_over_9 : decode cX9_over 9 = .ok (.iadd, 1) := dk_96 (dk_at dksX9_over_0 9 rfl rfl)
theorem dX9_over_10 : decode cX9_over 10 = .ok (.iload_n 2, 1) := dk_28 (dk_at dksX9_over_0 10 rfl rfl)
theorem dX9_over_11 : decode cX9_over 11 = .ok (.iconst 4, 1) := dk_7 (dk_at dksX9_over_0 11 rfl rfl)
theorem dX9_over_12 : decode cX9_over 12 = .ok (.if_icmp .ne 10, 3) := dk_160 0 10 (dk_at dksX9_over_0 12 rfl rfl)
theorem dX9_over_15 : decode cX9_over 15 = .ok (.aload_n 0, 1) := dk_42 (dk_at dksX9_over_0 15 rfl rfl)
theorem dX9_over_16 : decode cX9_over 16 = .ok (.getfield 15, 3) := dk_180 0 15 (dk_at dksX9_over_0 16 rfl rfl)
theorem dX9_over_19 : decode cX9_over 19 = .ok (.goto 15, 3) := dk_167 0 15 (dk_at dksX9_over_0 19 rfl rfl)
theorem dX9_over_22 : decode cX9_over 22 = .ok (.new 20, 3) := dk_187 0 20 (dk_at dksX9_over_1 0 rfl rfl)
theorem dX9_over_25 : decode cX9_over 25 = .ok (.dup, 1) := dk_89 (dk_at dksX9_over_1 3 rfl rfl)
theorem dX9_over_26 : decode cX9_over 26 = .ok (.aload_n 0, 1) := dk_42 (dk_at dksX9_over_1 4 rfl rfl)
theorem dX9_over_27 : decode cX9_over 27 = .ok (.getfield 15, 3) := dk_180 0 15 (dk_at dksX9_over_1 5 rfl rfl)
theorem dX9_over_30 : decode cX9_over 30 = .ok (.iload_n 2, 1) := dk_28 (dk_at dksX9_over_1 8 rfl rfl)
theorem dX9_over_31 : decode cX9_over 31 = .ok (.invokespecial 29, 3) := dk_183 0 29 (dk_at dksX9_over_1 9 rfl rfl)
theorem dX9_over_34 : decode cX9_over 34 = .ok (.invokespecial 32, 3) := dk_183 0 32 (dk_at dksX9_over_1 12 rfl rfl)
theorem dX9_over_37 : decode cX9_over 37 = .ok (.areturn, 1) := dk_176 (dk_at dksX9_over_1 15 rfl rfl)
theorem q103 : (Jvm.Cond.initialized "ChantRules$Way") ∈ lw_all := lw_g (lw_at lw_m1 28 rfl) rfl
theorem q447 : (Jvm.Cond.selects "ChantRules$Way" ({ cls := "java/lang/Object", name := "getClass", desc := "()Ljava/lang/Class;" } : Jvm.MethodName) ({ cls := "java/lang/Object", name := "getClass", desc := "()Ljava/lang/Class;" } : Jvm.MethodName)) ∈ lw_all := lw_g (lw_at lw_m2 132 rfl) rfl
theorem q996 : (Jvm.Cond.instantiable "ChantRules$Way" (2 : Nat)) ∈ lw_all := lw_g (lw_at lw_m4 201 rfl) rfl
theorem q998 : (Jvm.Cond.instanceMethod ({ cls := "ChantRules$Way", name := "<init>", desc := "(ILChantRules$Letter;)V" } : Jvm.MethodName)) ∈ lw_all := lw_g (lw_at lw_m4 203 rfl) rfl
theorem q999 : (Jvm.Cond.code ({ cls := "ChantRules$Way", name := "<init>", desc := "(ILChantRules$Letter;)V" } : Jvm.MethodName) prog_16_method_1_code (3 : Nat) (Option.none : Option Jvm.ClassFile.FieldType)) ∈ lw_all := lw_g (lw_at lw_m4 204 rfl) rfl
theorem q1000 : (Jvm.Cond.methodLink "ChantRules$Way" (3 : Nat) ({ cls := "java/lang/Object", name := "<init>", desc := "()V" } : Jvm.MethodName)) ∈ lw_all := lw_g (lw_at lw_m4 205 rfl) rfl
theorem q1001 : (Jvm.Cond.fieldLink "ChantRules$Way" (9 : Nat) "ChantRules$Way" "weight" "I") ∈ lw_all := lw_g (lw_at lw_m4 206 rfl) rfl
theorem q1003 : (Jvm.Cond.fieldLink "ChantRules$Way" (15 : Nat) "ChantRules$Way" "song" "LChantRules$Letter;") ∈ lw_all := lw_g (lw_at lw_m4 208 rfl) rfl
theorem q1005 : (Jvm.Cond.laysFinal "ChantRules$Way" "ChantRules$Way" "weight" "I") ∈ lw_all := lw_g (lw_at lw_m4 210 rfl) rfl
theorem q1006 : (Jvm.Cond.soleField "ChantRules$Way" "weight") ∈ lw_all := lw_g (lw_at lw_m4 211 rfl) rfl
theorem q1007 : (Jvm.Cond.laysFinal "ChantRules$Way" "ChantRules$Way" "song" "LChantRules$Letter;") ∈ lw_all := lw_g (lw_at lw_m4 212 rfl) rfl
theorem q1008 : (Jvm.Cond.soleField "ChantRules$Way" "song") ∈ lw_all := lw_g (lw_at lw_m4 213 rfl) rfl
theorem q1009 : (Jvm.Cond.superclass "ChantRules$Way" "java/lang/Object") ∈ lw_all := lw_g (lw_at lw_m4 214 rfl) rfl
theorem q1023 : (Jvm.Cond.instanceMethod ({ cls := "ChantRules$Way", name := "isLess", desc := "(IILChantRules$Way;)Z" } : Jvm.MethodName)) ∈ lw_all := lw_g (lw_at lw_m4 228 rfl) rfl
theorem q1024 : (Jvm.Cond.selects "ChantRules$Way" ({ cls := "ChantRules$Way", name := "isLess", desc := "(IILChantRules$Way;)Z" } : Jvm.MethodName) ({ cls := "ChantRules$Way", name := "isLess", desc := "(IILChantRules$Way;)Z" } : Jvm.MethodName)) ∈ lw_all := lw_g (lw_at lw_m4 229 rfl) rfl
theorem q1025 : (Jvm.Cond.code ({ cls := "ChantRules$Way", name := "isLess", desc := "(IILChantRules$Way;)Z" } : Jvm.MethodName) prog_16_method_2_code (6 : Nat) (Option.some Jvm.ClassFile.FieldType.boolean)) ∈ lw_all := lw_g (lw_at lw_m4 230 rfl) rfl
theorem q1026 : (Jvm.Cond.methodLink "ChantRules$Way" (19 : Nat) ({ cls := "ChantRules$Letter", name := "lengthOf", desc := "(LChantRules$Letter;)I" } : Jvm.MethodName)) ∈ lw_all := lw_g (lw_at lw_m4 231 rfl) rfl
theorem q1029 : (Jvm.Cond.methodLink "ChantRules$Way" (25 : Nat) ({ cls := "ChantRules$Letter", name := "isAhead", desc := "(LChantRules$Letter;ILChantRules$Letter;)Z" } : Jvm.MethodName)) ∈ lw_all := lw_g (lw_at lw_m4 234 rfl) rfl
theorem q1036 : (Jvm.Cond.instanceMethod ({ cls := "ChantRules$Way", name := "over", desc := "(II)LChantRules$Way;" } : Jvm.MethodName)) ∈ lw_all := lw_g (lw_at lw_m5 1 rfl) rfl
theorem q1037 : (Jvm.Cond.selects "ChantRules$Way" ({ cls := "ChantRules$Way", name := "over", desc := "(II)LChantRules$Way;" } : Jvm.MethodName) ({ cls := "ChantRules$Way", name := "over", desc := "(II)LChantRules$Way;" } : Jvm.MethodName)) ∈ lw_all := lw_g (lw_at lw_m5 2 rfl) rfl
theorem q1038 : (Jvm.Cond.code ({ cls := "ChantRules$Way", name := "over", desc := "(II)LChantRules$Way;" } : Jvm.MethodName) prog_16_method_3_code (3 : Nat) (Option.some (Jvm.ClassFile.FieldType.object "ChantRules$Way"))) ∈ lw_all := lw_g (lw_at lw_m5 3 rfl) rfl
theorem q1039 : (Jvm.Cond.classLink "ChantRules$Way" (10 : Nat) "ChantRules$Way") ∈ lw_all := lw_g (lw_at lw_m5 4 rfl) rfl
theorem q1040 : (Jvm.Cond.classLink "ChantRules$Way" (20 : Nat) "ChantRules$Letter") ∈ lw_all := lw_g (lw_at lw_m5 5 rfl) rfl
theorem q1042 : (Jvm.Cond.methodLink "ChantRules$Way" (29 : Nat) ({ cls := "ChantRules$Letter", name := "<init>", desc := "(LChantRules$Letter;I)V" } : Jvm.MethodName)) ∈ lw_all := lw_g (lw_at lw_m5 7 rfl) rfl
theorem q1057 : (Jvm.Cond.methodLink "ChantRules$Way" (32 : Nat) ({ cls := "ChantRules$Way", name := "<init>", desc := "(ILChantRules$Letter;)V" } : Jvm.MethodName)) ∈ lw_all := lw_g (lw_at lw_m5 22 rfl) rfl
theorem q2365 : (Jvm.Cond.castable "ChantRules$Way" "java/lang/Object") ∈ lw_tbl := lw_at lw_m10 130 rfl
theorem in_X9 : ∀ w ∈ wsX90, w ∈ lw_all := lw_in wsX90 [1005, 1007] (by decide +kernel) (by decide +kernel)
/-! ChantRules$Letter -/
set_option maxRecDepth 100000
def RX10 : String := "ChantRules$Letter"
def TX10 : u_T := fun k => match k with
  | 0 => ("ChantRules$Letter", "before", "LChantRules$Letter;", true)
  | 1 => ("ChantRules$Letter", "sound", "I", true)
  | _ => ("ChantRules$Letter", "length", "I", true)
def tyX10 : Nat → FieldType := fun k => match k with
  | 0 => .object "ChantRules$Letter"
  | 1 => .int
  | _ => .int
abbrev wsX100 : List Cond := u_ws RX10 TX10 3
theorem nmX10 : ∀ a, a < 3 → ∀ b, b < 3 → a ≠ b → (TX10 a).2.1 ≠ (TX10 b).2.1 := by decide +kernel
theorem tyX10_ok : ∀ k, k < 3 → parseFieldDescriptor (TX10 k).2.2.1 = some (tyX10 k) := by decide +kernel
abbrev cX10_lengthOf : ByteArray := prog_8_method_2_code
def yX10_lengthOf : MethodName := ⟨RX10, "lengthOf", "(LChantRules$Letter;)I"⟩
def dkwX10_lengthOf_0 : List UInt8 := [42, 199, 0, 7, 3, 167, 0, 7, 42, 180, 0, 23, 172]
abbrev dktX10_lengthOf_0 : List UInt8 := dkwX10_lengthOf_0 ++ []
theorem dksX10_lengthOf_0 : cX10_lengthOf.data.toList.drop 0 = dktX10_lengthOf_0 := by decide +kernel
theorem dX10_lengthOf_0 : decode cX10_lengthOf 0 = .ok (.aload_n 0, 1) := dk_42 (dk_at dksX10_lengthOf_0 0 rfl rfl)
theorem dX10_lengthOf_1 : decode cX10_lengthOf 1 = .ok (.ifnonnull 7, 3) := dk_199 0 7 (dk_at dksX10_lengthOf_0 1 rfl rfl)
theorem dX10_lengthOf_4 : decode cX10_lengthOf 4 = .ok (.iconst 0, 1) := dk_3 (dk_at dksX10_lengthOf_0 4 rfl rfl)
theorem dX10_lengthOf_5 : decode cX10_lengthOf 5 = .ok (.goto 7, 3) := dk_167 0 7 (dk_at dksX10_lengthOf_0 5 rfl rfl)
theorem dX10_lengthOf_8 : decode cX10_lengthOf 8 = .ok (.aload_n 0, 1) := dk_42 (dk_at dksX10_lengthOf_0 8 rfl rfl)
theorem dX10_lengthOf_9 : decode cX10_lengthOf 9 = .ok (.getfield 23, 3) := dk_180 0 23 (dk_at dksX10_lengthOf_0 9 rfl rfl)
theorem dX10_lengthOf_12 : decode cX10_lengthOf 12 = .ok (.ireturn, 1) := dk_172 (dk_at dksX10_lengthOf_0 12 rfl rfl)
abbrev cX10_isAhead : ByteArray := prog_8_method_3_code
def yX10_isAhead : MethodName := ⟨RX10, "isAhead", "(LChantRules$Letter;ILChantRules$Letter;)Z"⟩
def dkwX10_isAhead_2 : List UInt8 := [180, 0, 15, 162, 0, 7, 4, 167, 0, 4, 3, 172]
abbrev dktX10_isAhead_2 : List UInt8 := dkwX10_isAhead_2 ++ []
def dkwX10_isAhead_1 : List UInt8 := [184, 0, 26, 62, 29, 153, 0, 15, 29, 156, 0, 7, 4, 167, 0, 20, 3, 167, 0, 16, 27, 44]
abbrev dktX10_isAhead_1 : List UInt8 := dkwX10_isAhead_1 ++ dktX10_isAhead_2
def dkwX10_isAhead_0 : List UInt8 := [27, 7, 160, 0, 17, 42, 44, 184, 0, 26, 156, 0, 7, 4, 167, 0, 4, 3, 172, 42, 44, 180, 0, 9]
abbrev dktX10_isAhead_0 : List UInt8 := dkwX10_isAhead_0 ++ dktX10_isAhead_1
theorem dksX10_isAhead_0 : cX10_isAhead.data.toList.drop 0 = dktX10_isAhead_0 := by decide +kernel
theorem dksX10_isAhead_1 : cX10_isAhead.data.toList.drop 24 = dktX10_isAhead_1 := dk_seg dksX10_isAhead_0 24 rfl rfl
theorem dksX10_isAhead_2 : cX10_isAhead.data.toList.drop 46 = dktX10_isAhead_2 := dk_seg dksX10_isAhead_1 22 rfl rfl
theorem dX10_isAhead_0 : decode cX10_isAhead 0 = .ok (.iload_n 1, 1) := dk_27 (dk_at dksX10_isAhead_0 0 rfl rfl)
theorem dX10_isAhead_1 : decode cX10_isAhead 1 = .ok (.iconst 4, 1) := dk_7 (dk_at dksX10_isAhead_0 1 rfl rfl)
theorem dX10_isAhead_2 : decode cX10_isAhead 2 = .ok (.if_icmp .ne 17, 3) := dk_160 0 17 (dk_at dksX10_isAhead_0 2 rfl rfl)
theorem dX10_isAhead_5 : decode cX10_isAhead 5 = .ok (.aload_n 0, 1) := dk_42 (dk_at dksX10_isAhead_0 5 rfl rfl)
theorem dX10_isAhead_6 : decode cX10_isAhead 6 = .ok (.aload_n 2, 1) := dk_44 (dk_at dksX10_isAhead_0 6 rfl rfl)
theorem dX10_isAhead_7 : decode cX10_isAhead 7 = .ok (.invokestatic 26, 3) := dk_184 0 26 (dk_at dksX10_isAhead_0 7 rfl rfl)
theorem dX10_isAhead_10 : decode cX10_isAhead 10 = .ok (.ifCond .ge 7, 3) := dk_156 0 7 (dk_at dksX10_isAhead_0 10 rfl rfl)
theorem dX10_isAhead_13 : decode cX10_isAhead 13 = .ok (.iconst 1, 1) := dk_4 (dk_at dksX10_isAhead_0 13 rfl rfl)
theorem dX10_isAhead_14 : decode cX10_isAhead 14 = .ok (.goto 4, 3) := dk_167 0 4 (dk_at dksX10_isAhead_0 14 rfl rfl)
theorem dX10_isAhead_17 : decode cX10_isAhead 17 = .ok (.iconst 0, 1) := dk_3 (dk_at dksX10_isAhead_0 17 rfl rfl)
theorem dX10_isAhead_18 : decode cX10_isAhead 18 = .ok (.ireturn, 1) := dk_172 (dk_at dksX10_isAhead_0 18 rfl rfl)
theorem dX10_isAhead_19 : decode cX10_isAhead 19 = .ok (.aload_n 0, 1) := dk_42 (dk_at dksX10_isAhead_0 19 rfl rfl)
theorem dX10_isAhead_20 : decode cX10_isAhead 20 = .ok (.aload_n 2, 1) := dk_44 (dk_at dksX10_isAhead_0 20 rfl rfl)
theorem dX10_isAhead_21 : decode cX10_isAhead 21 = .ok (.getfield 9, 3) := dk_180 0 9 (dk_at dksX10_isAhead_0 21 rfl rfl)
theorem dX10_isAhead_24 : decode cX10_isAhead 24 = .ok (.invokestatic 26, 3) := dk_184 0 26 (dk_at dksX10_isAhead_1 0 rfl rfl)
theorem dX10_isAhead_27 : decode cX10_isAhead 27 = .ok (.istore_n 3, 1) := dk_62 (dk_at dksX10_isAhead_1 3 rfl rfl)
theorem dX10_isAhead_28 : decode cX10_isAhead 28 = .ok (.iload_n 3, 1) := dk_29 (dk_at dksX10_isAhead_1 4 rfl rfl)
theorem dX10_isAhead_29 : decode cX10_isAhead 29 = .ok (.ifCond .eq 15, 3) := dk_153 0 15 (dk_at dksX10_isAhead_1 5 rfl rfl)
theorem dX10_isAhead_32 : decode cX10_isAhead 32 = .ok (.iload_n 3, 1) := dk_29 (dk_at dksX10_isAhead_1 8 rfl rfl)
theorem dX10_isAhead_33 : decode cX10_isAhead 33 = .ok (.ifCond .ge 7, 3) := dk_156 0 7 (dk_at dksX10_isAhead_1 9 rfl rfl)
theorem dX10_isAhead_36 : decode cX10_isAhead 36 = .ok (.iconst 1, 1) := dk_4 (dk_at dksX10_isAhead_1 12 rfl rfl)
theorem dX10_isAhead_37 : decode cX10_isAhead 37 = .ok (.goto 20, 3) := dk_167 0 20 (dk_at dksX10_isAhead_1 13 rfl rfl)
theorem dX10_isAhead_40 : decode cX10_isAhead 40 = .ok (.iconst 0, 1) := dk_3 (dk_at dksX10_isAhead_1 16 rfl rfl)
theorem dX10_isAhead_41 : decode cX10_isAhead 41 = .ok (.goto 16, 3) := dk_167 0 16 (dk_at dksX10_isAhead_1 17 rfl rfl)
theorem dX10_isAhead_44 : decode cX10_isAhead 44 = .ok (.iload_n 1, 1) := dk_27 (dk_at dksX10_isAhead_1 20 rfl rfl)
theorem dX10_isAhead_45 : decode cX10_isAhead 45 = .ok (.aload_n 2, 1) := dk_44 (dk_at dksX10_isAhead_1 21 rfl rfl)
theorem dX10_isAhead_46 : decode cX10_isAhead 46 = .ok (.getfield 15, 3) := dk_180 0 15 (dk_at dksX10_isAhead_2 0 rfl rfl)
theorem dX10_isAhead_49 : decode cX10_isAhead 49 = .ok (.if_icmp .ge 7, 3) := dk_162 0 7 (dk_at dksX10_isAhead_2 3 rfl rfl)
theorem dX10_isAhead_52 : decode cX10_isAhead 52 = .ok (.iconst 1, 1) := dk_4 (dk_at dksX10_isAhead_2 6 rfl rfl)
theorem dX10_isAhead_53 : decode cX10_isAhead 53 = .ok (.goto 4, 3) := dk_167 0 4 (dk_at dksX10_isAhead_2 7 rfl rfl)
theorem dX10_isAhead_56 : decode cX10_isAhead 56 = .ok (.iconst 0, 1) := dk_3 (dk_at dksX10_isAhead_2 10 rfl rfl)
theorem dX10_isAhead_57 : decode cX10_isAhead 57 = .ok (.ireturn, 1) := dk_172 (dk_at dksX10_isAhead_2 11 rfl rfl)
abbrev cX10_order : ByteArray := prog_8_method_4_code
def yX10_order : MethodName := ⟨RX10, "order", "(LChantRules$Letter;LChantRules$Letter;)I"⟩
def dkwX10_order_1 : List UInt8 := [184, 0, 26, 61, 28, 153, 0, 7, 28, 167, 0, 12, 42, 180, 0, 15, 43, 180, 0, 15, 100, 172]
abbrev dktX10_order_1 : List UInt8 := dkwX10_order_1 ++ []
def dkwX10_order_0 : List UInt8 := [42, 43, 165, 0, 11, 42, 198, 0, 7, 43, 199, 0, 5, 3, 172, 42, 180, 0, 9, 43, 180, 0, 9]
abbrev dktX10_order_0 : List UInt8 := dkwX10_order_0 ++ dktX10_order_1
theorem dksX10_order_0 : cX10_order.data.toList.drop 0 = dktX10_order_0 := by decide +kernel
theorem dksX10_order_1 : cX10_order.data.toList.drop 23 = dktX10_order_1 := dk_seg dksX10_order_0 23 rfl rfl
theorem dX10_order_0 : decode cX10_order 0 = .ok (.aload_n 0, 1) := dk_42 (dk_at dksX10_order_0 0 rfl rfl)
theorem dX10_order_1 : decode cX10_order 1 = .ok (.aload_n 1, 1) := dk_43 (dk_at dksX10_order_0 1 rfl rfl)
theorem dX10_order_2 : decode cX10_order 2 = .ok (.if_acmp .eq 11, 3) := dk_165 0 11 (dk_at dksX10_order_0 2 rfl rfl)
theorem dX10_order_5 : decode cX10_order 5 = .ok (.aload_n 0, 1) := dk_42 (dk_at dksX10_order_0 5 rfl rfl)
theorem dX10_order_6 : decode cX10_order 6 = .ok (.ifnull 7, 3) := dk_198 0 7 (dk_at dksX10_order_0 6 rfl rfl)
theorem dX10_order_9 : decode cX10_order 9 = .ok (.aload_n 1, 1) := dk_43 (dk_at dksX10_order_0 9 rfl rfl)
theorem dX10_order_10 : decode cX10_order 10 = .ok (.ifnonnull 5, 3) := dk_199 0 5 (dk_at dksX10_order_0 10 rfl rfl)
theorem dX10_order_13 : decode cX10_order 13 = .ok (.iconst 0, 1) := dk_3 (dk_at dksX10_order_0 13 rfl rfl)
theorem dX10_order_14 : decode cX10_order 14 = .ok (.ireturn, 1) := dk_172 (dk_at dksX10_order_0 14 rfl rfl)
theorem dX10_order_15 : decode cX10_order 15 = .ok (.aload_n 0, 1) := dk_42 (dk_at dksX10_order_0 15 rfl rfl)
theorem dX10_order_16 : decode cX10_order 16 = .ok (.getfield 9, 3) := dk_180 0 9 (dk_at dksX10_order_0 16 rfl rfl)
theorem dX10_order_19 : decode cX10_order 19 = .ok (.aload_n 1, 1) := dk_43 (dk_at dksX10_order_0 19 rfl rfl)
theorem dX10_order_20 : decode cX10_order 20 = .ok (.getfield 9, 3) := dk_180 0 9 (dk_at dksX10_order_0 20 rfl rfl)
theorem dX10_order_23 : decode cX10_order 23 = .ok (.invokestatic 26, 3) := dk_184 0 26 (dk_at dksX10_order_1 0 rfl rfl)
theorem dX10_order_26 : decode cX10_order 26 = .ok (.istore_n 2, 1) := dk_61 (dk_at dksX10_order_1 3 rfl rfl)
theorem dX10_order_27 : decode cX10_order 27 = .ok (.iload_n 2, 1) := dk_28 (dk_at dksX10_order_1 4 rfl rfl)
theorem dX10_order_28 : decode cX10_order 28 = .ok (.ifCond .eq 7, 3) := dk_153 0 7 (dk_at dksX10_order_1 5 rfl rfl)
theorem dX10_order_31 : decode cX10_order 31 = .ok (.iload_n 2, 1) := dk_28 (dk_at dksX10_order_1 8 rfl rfl)
theorem dX10_order_32 : decode cX10_order 32 = .ok (.goto 12, 3) := dk_167 0 12 (dk_at dksX10_order_1 9 rfl rfl)
theorem dX10_order_35 : decode cX10_order 35 = .ok (.aload_n 0, 1) := dk_42 (dk_at dksX10_order_1 12 rfl rfl)
theorem dX10_order_36 : decode cX10_order 36 = .ok (.getfield 15, 3) := dk_180 0 15 (dk_at dksX10_order_1 13 rfl rfl)
theorem dX10_order_39 : decode cX10_order 39 = .ok (.aload_n 1, 1) := dk_43 (dk_at dksX10_order_1 16 rfl rfl)
theorem dX10_order_40 : decode cX10_order 40 = .ok (.getfield 15, 3) := dk_180 0 15 (dk_at dksX10_order_1 17 rfl rfl)
theorem dX10_order_43 : decode cX10_order 43 = .ok (.isub, 1) := dk_100 (dk_at dksX10_order_1 20 rfl rfl)
theorem dX10_order_44 : decode cX10_order 44 = .ok (.ireturn, 1) := dk_172 (dk_at dksX10_order_1 21 rfl rfl)
abbrev cX10_init : ByteArray := prog_8_method_1_code
def yX10_init : MethodName := ⟨RX10, "<init>", "(LChantRules$Letter;I)V"⟩
def dkwX10_init_1 : List UInt8 := [177]
abbrev dktX10_init_1 : List UInt8 := dkwX10_init_1 ++ []
def dkwX10_init_0 : List UInt8 := [42, 183, 0, 3, 42, 43, 181, 0, 9, 42, 28, 181, 0, 15, 42, 43, 184, 0, 19, 4, 96, 181, 0, 23]
abbrev dktX10_init_0 : List UInt8 := dkwX10_init_0 ++ dktX10_init_1
theorem dksX10_init_0 : cX10_init.data.toList.drop 0 = dktX10_init_0 := by decide +kernel
theorem dksX10_init_1 : cX10_init.data.toList.drop 24 = dktX10_init_1 := dk_seg dksX10_init_0 24 rfl rfl
theorem dX10_init_0 : decode cX10_init 0 = .ok (.aload_n 0, 1) := dk_42 (dk_at dksX10_init_0 0 rfl rfl)
theorem dX10_init_1 : decode cX10_init 1 = .ok (.invokespecial 3, 3) := dk_183 0 3 (dk_at dksX10_init_0 1 rfl rfl)
theorem dX10_init_4 : decode cX10_init 4 = .ok (.aload_n 0, 1) := dk_42 (dk_at dksX10_init_0 4 rfl rfl)
theorem dX10_init_5 : decode cX10_init 5 = .ok (.aload_n 1, 1) := dk_43 (dk_at dksX10_init_0 5 rfl rfl)
theorem dX10_init_6 : decode cX10_init 6 = .ok (.putfield 9, 3) := dk_181 0 9 (dk_at dksX10_init_0 6 rfl rfl)
theorem dX10_init_9 : decode cX10_init 9 = .ok (.aload_n 0, 1) := dk_42 (dk_at dksX10_init_0 9 rfl rfl)
theorem dX10_init_10 : decode cX10_init 10 = .ok (.iload_n 2, 1) := dk_28 (dk_at dksX10_init_0 10 rfl rfl)
theorem dX10_init_11 : decode cX10_init 11 = .ok (.putfield 15, 3) := dk_181 0 15 (dk_at dksX10_init_0 11 rfl rfl)
theorem dX10_init_14 : decode cX10_init 14 = .ok (.aload_n 0, 1) := dk_42 (dk_at dksX10_init_0 14 rfl rfl)
theorem dX10_init_15 : decode cX10_init 15 = .ok (.aload_n 1, 1) := dk_43 (dk_at dksX10_init_0 15 rfl rfl)
theorem dX10_init_16 : decode cX10_init 16 = .ok (.invokestatic 19, 3) := dk_184 0 19 (dk_at dksX10_init_0 16 rfl rfl)
theorem dX10_init_19 : decode cX10_init 19 = .ok (.iconst 1, 1) := dk_4 (dk_at dksX10_init_0 19 rfl rfl)
theorem dX10_init_20 : decode cX10_init 20 = .ok (.iadd, 1) := dk_96 (dk_at dksX10_init_0 20 rfl rfl)
theorem dX10_init_21 : decode cX10_init 21 = .ok (.putfield 23, 3) := dk_181 0 23 (dk_at dksX10_init_0 21 rfl rfl)
theorem dX10_init_24 : decode cX10_init 24 = .ok (.return_, 1) := dk_177 (dk_at dksX10_init_1 0 rfl rfl)
abbrev cX10_writes : ByteArray := prog_8_method_5_code
def yX10_writes : MethodName := ⟨RX10, "writes", "(Ljava/lang/StringBuilder;)V"⟩
def dkwX10_writes_1 : List UInt8 := [182, 0, 37, 182, 0, 43, 87, 177]
abbrev dktX10_writes_1 : List UInt8 := dkwX10_writes_1 ++ []
def dkwX10_writes_0 : List UInt8 := [42, 180, 0, 9, 198, 0, 11, 42, 180, 0, 9, 43, 182, 0, 30, 43, 42, 180, 0, 15, 184, 0, 34]
abbrev dktX10_writes_0 : List UInt8 := dkwX10_writes_0 ++ dktX10_writes_1
theorem dksX10_writes_0 : cX10_writes.data.toList.drop 0 = dktX10_writes_0 := by decide +kernel
theorem dksX10_writes_1 : cX10_writes.data.toList.drop 23 = dktX10_writes_1 := dk_seg dksX10_writes_0 23 rfl rfl
theorem dX10_writes_0 : decode cX10_writes 0 = .ok (.aload_n 0, 1) := dk_42 (dk_at dksX10_writes_0 0 rfl rfl)
theorem dX10_writes_1 : decode cX10_writes 1 = .ok (.getfield 9, 3) := dk_180 0 9 (dk_at dksX10_writes_0 1 rfl rfl)
theorem dX10_writes_4 : decode cX10_writes 4 = .ok (.ifnull 11, 3) := dk_198 0 11 (dk_at dksX10_writes_0 4 rfl rfl)
theorem dX10_writes_7 : decode cX10_writes 7 = .ok (.aload_n 0, 1) := dk_42 (dk_at dksX10_writes_0 7 rfl rfl)
theorem dX10_writes_8 : decode cX10_writes 8 = .ok (.getfield 9, 3) := dk_180 0 9 (dk_at dksX10_writes_0 8 rfl rfl)
theorem dX10_writes_11 : decode cX10_writes 11 = .ok (.aload_n 1, 1) := dk_43 (dk_at dksX10_writes_0 11 rfl rfl)
theorem dX10_writes_12 : decode cX10_writes 12 = .ok (.invokevirtual 30, 3) := dk_182 0 30 (dk_at dksX10_writes_0 12 rfl rfl)
theorem dX10_writes_15 : decode cX10_writes 15 = .ok (.aload_n 1, 1) := dk_43 (dk_at dksX10_writes_0 15 rfl rfl)
theorem dX10_writes_16 : decode cX10_writes 16 = .ok (.aload_n 0, 1) := dk_42 (dk_at dksX10_writes_0 16 rfl rfl)
theorem dX10_writes_17 : decode cX10_writes 17 = .ok (.getfield 15, 3) := dk_180 0 15 (dk_at dksX10_writes_0 17 rfl rfl)
theorem dX10_writes_20 : decode cX10_writes 20 = .ok (.invokestatic 34, 3) := dk_184 0 34 (dk_at dksX10_writes_0 20 rfl rfl)
theorem dX10_writes_23 : decode cX10_writes 23 = .ok (.invokevirtual 37, 3) := dk_182 0 37 (dk_at dksX10_writes_1 0 rfl rfl)
theorem dX10_writes_26 : decode cX10_writes 26 = .ok (.invokevirtual 43, 3) := dk_182 0 43 (dk_at dksX10_writes_1 3 rfl rfl)
theorem dX10_writes_29 : decode cX10_writes 29 = .ok (.pop, 1) := dk_87 (dk_at dksX10_writes_1 6 rfl rfl)
theorem dX10_writes_30 : decode cX10_writes 30 = .ok (.return_, 1) := dk_177 (dk_at dksX10_writes_1 7 rfl rfl)
theorem q104 : (Jvm.Cond.initialized "ChantRules$Letter") ∈ lw_all := lw_g (lw_at lw_m1 29 rfl) rfl
theorem q441 : (Jvm.Cond.selects "ChantRules$Letter" ({ cls := "java/lang/Object", name := "getClass", desc := "()Ljava/lang/Class;" } : Jvm.MethodName) ({ cls := "java/lang/Object", name := "getClass", desc := "()Ljava/lang/Class;" } : Jvm.MethodName)) ∈ lw_all := lw_g (lw_at lw_m2 126 rfl) rfl
theorem q1027 : (Jvm.Cond.static ({ cls := "ChantRules$Letter", name := "lengthOf", desc := "(LChantRules$Letter;)I" } : Jvm.MethodName)) ∈ lw_all := lw_g (lw_at lw_m4 232 rfl) rfl
theorem q1028 : (Jvm.Cond.code ({ cls := "ChantRules$Letter", name := "lengthOf", desc := "(LChantRules$Letter;)I" } : Jvm.MethodName) prog_8_method_2_code (1 : Nat) (Option.some Jvm.ClassFile.FieldType.int)) ∈ lw_all := lw_g (lw_at lw_m4 233 rfl) rfl
theorem q1030 : (Jvm.Cond.static ({ cls := "ChantRules$Letter", name := "isAhead", desc := "(LChantRules$Letter;ILChantRules$Letter;)Z" } : Jvm.MethodName)) ∈ lw_all := lw_g (lw_at lw_m4 235 rfl) rfl
theorem q1031 : (Jvm.Cond.code ({ cls := "ChantRules$Letter", name := "isAhead", desc := "(LChantRules$Letter;ILChantRules$Letter;)Z" } : Jvm.MethodName) prog_8_method_3_code (4 : Nat) (Option.some Jvm.ClassFile.FieldType.boolean)) ∈ lw_all := lw_g (lw_at lw_m4 236 rfl) rfl
theorem q1032 : (Jvm.Cond.methodLink "ChantRules$Letter" (26 : Nat) ({ cls := "ChantRules$Letter", name := "order", desc := "(LChantRules$Letter;LChantRules$Letter;)I" } : Jvm.MethodName)) ∈ lw_all := lw_g (lw_at lw_m4 237 rfl) rfl
theorem q1033 : (Jvm.Cond.static ({ cls := "ChantRules$Letter", name := "order", desc := "(LChantRules$Letter;LChantRules$Letter;)I" } : Jvm.MethodName)) ∈ lw_all := lw_g (lw_at lw_m4 238 rfl) rfl
theorem q1034 : (Jvm.Cond.code ({ cls := "ChantRules$Letter", name := "order", desc := "(LChantRules$Letter;LChantRules$Letter;)I" } : Jvm.MethodName) prog_8_method_4_code (3 : Nat) (Option.some Jvm.ClassFile.FieldType.int)) ∈ lw_all := lw_g (lw_at lw_m4 239 rfl) rfl
theorem q1041 : (Jvm.Cond.instantiable "ChantRules$Letter" (3 : Nat)) ∈ lw_all := lw_g (lw_at lw_m5 6 rfl) rfl
theorem q1043 : (Jvm.Cond.instanceMethod ({ cls := "ChantRules$Letter", name := "<init>", desc := "(LChantRules$Letter;I)V" } : Jvm.MethodName)) ∈ lw_all := lw_g (lw_at lw_m5 8 rfl) rfl
theorem q1044 : (Jvm.Cond.code ({ cls := "ChantRules$Letter", name := "<init>", desc := "(LChantRules$Letter;I)V" } : Jvm.MethodName) prog_8_method_1_code (3 : Nat) (Option.none : Option Jvm.ClassFile.FieldType)) ∈ lw_all := lw_g (lw_at lw_m5 9 rfl) rfl
theorem q1045 : (Jvm.Cond.methodLink "ChantRules$Letter" (3 : Nat) ({ cls := "java/lang/Object", name := "<init>", desc := "()V" } : Jvm.MethodName)) ∈ lw_all := lw_g (lw_at lw_m5 10 rfl) rfl
theorem q1046 : (Jvm.Cond.methodLink "ChantRules$Letter" (19 : Nat) ({ cls := "ChantRules$Letter", name := "lengthOf", desc := "(LChantRules$Letter;)I" } : Jvm.MethodName)) ∈ lw_all := lw_g (lw_at lw_m5 11 rfl) rfl
theorem q1047 : (Jvm.Cond.fieldLink "ChantRules$Letter" (9 : Nat) "ChantRules$Letter" "before" "LChantRules$Letter;") ∈ lw_all := lw_g (lw_at lw_m5 12 rfl) rfl
theorem q1048 : (Jvm.Cond.fieldLink "ChantRules$Letter" (15 : Nat) "ChantRules$Letter" "sound" "I") ∈ lw_all := lw_g (lw_at lw_m5 13 rfl) rfl
theorem q1049 : (Jvm.Cond.fieldLink "ChantRules$Letter" (23 : Nat) "ChantRules$Letter" "length" "I") ∈ lw_all := lw_g (lw_at lw_m5 14 rfl) rfl
theorem q1050 : (Jvm.Cond.laysFinal "ChantRules$Letter" "ChantRules$Letter" "before" "LChantRules$Letter;") ∈ lw_all := lw_g (lw_at lw_m5 15 rfl) rfl
theorem q1051 : (Jvm.Cond.soleField "ChantRules$Letter" "before") ∈ lw_all := lw_g (lw_at lw_m5 16 rfl) rfl
theorem q1052 : (Jvm.Cond.laysFinal "ChantRules$Letter" "ChantRules$Letter" "sound" "I") ∈ lw_all := lw_g (lw_at lw_m5 17 rfl) rfl
theorem q1053 : (Jvm.Cond.soleField "ChantRules$Letter" "sound") ∈ lw_all := lw_g (lw_at lw_m5 18 rfl) rfl
theorem q1054 : (Jvm.Cond.laysFinal "ChantRules$Letter" "ChantRules$Letter" "length" "I") ∈ lw_all := lw_g (lw_at lw_m5 19 rfl) rfl
theorem q1055 : (Jvm.Cond.soleField "ChantRules$Letter" "length") ∈ lw_all := lw_g (lw_at lw_m5 20 rfl) rfl
theorem q1056 : (Jvm.Cond.superclass "ChantRules$Letter" "java/lang/Object") ∈ lw_all := lw_g (lw_at lw_m5 21 rfl) rfl
theorem q1102 : (Jvm.Cond.instanceMethod ({ cls := "ChantRules$Letter", name := "writes", desc := "(Ljava/lang/StringBuilder;)V" } : Jvm.MethodName)) ∈ lw_all := lw_g (lw_at lw_m5 67 rfl) rfl
theorem q1103 : (Jvm.Cond.selects "ChantRules$Letter" ({ cls := "ChantRules$Letter", name := "writes", desc := "(Ljava/lang/StringBuilder;)V" } : Jvm.MethodName) ({ cls := "ChantRules$Letter", name := "writes", desc := "(Ljava/lang/StringBuilder;)V" } : Jvm.MethodName)) ∈ lw_all := lw_g (lw_at lw_m5 68 rfl) rfl
theorem q1104 : (Jvm.Cond.code ({ cls := "ChantRules$Letter", name := "writes", desc := "(Ljava/lang/StringBuilder;)V" } : Jvm.MethodName) prog_8_method_5_code (2 : Nat) (Option.none : Option Jvm.ClassFile.FieldType)) ∈ lw_all := lw_g (lw_at lw_m5 69 rfl) rfl
theorem q1105 : (Jvm.Cond.methodLink "ChantRules$Letter" (30 : Nat) ({ cls := "ChantRules$Letter", name := "writes", desc := "(Ljava/lang/StringBuilder;)V" } : Jvm.MethodName)) ∈ lw_all := lw_g (lw_at lw_m5 70 rfl) rfl
theorem q1106 : (Jvm.Cond.methodLinkNest "ChantRules$Letter" (34 : Nat) ({ cls := "ChantRules", name := "sound", desc := "(I)LChantRules$Sound;" } : Jvm.MethodName) "ChantRules") ∈ lw_tbl := lw_at lw_m5 71 rfl
theorem q1119 : (Jvm.Cond.methodLink "ChantRules$Letter" (37 : Nat) ({ cls := "ChantRules$Sound", name := "sign", desc := "()C" } : Jvm.MethodName)) ∈ lw_all := lw_g (lw_at lw_m5 84 rfl) rfl
theorem q1128 : (Jvm.Cond.methodLink "ChantRules$Letter" (43 : Nat) ({ cls := "java/lang/StringBuilder", name := "append", desc := "(C)Ljava/lang/StringBuilder;" } : Jvm.MethodName)) ∈ lw_all := lw_g (lw_at lw_m5 93 rfl) rfl
theorem q2377 : (Jvm.Cond.castable "ChantRules$Letter" "java/lang/Object") ∈ lw_tbl := lw_at lw_m10 142 rfl
theorem in_X10 : ∀ w ∈ wsX100, w ∈ lw_all := lw_in wsX100 [1050, 1052, 1054] (by decide +kernel) (by decide +kernel)
/-! ChantRules$Composed -/
set_option maxRecDepth 100000
def RX11 : String := "ChantRules$Composed"
def TX11 : u_T := fun k => match k with
  | 0 => ("ChantRules$Composed", "one", "LChantRules$Rule;", true)
  | 1 => ("ChantRules$Composed", "other", "LChantRules$Rule;", true)
  | _ => ("ChantRules$Composed", "arcs", "Ljava/util/ArrayList;", true)
def tyX11 : Nat → FieldType := fun k => match k with
  | 0 => .object "ChantRules$Rule"
  | 1 => .object "ChantRules$Rule"
  | _ => .object "java/util/ArrayList"
abbrev wsX110 : List Cond := u_ws RX11 TX11 3
theorem nmX11 : ∀ a, a < 3 → ∀ b, b < 3 → a ≠ b → (TX11 a).2.1 ≠ (TX11 b).2.1 := by decide +kernel
theorem tyX11_ok : ∀ k, k < 3 → parseFieldDescriptor (TX11 k).2.2.1 = some (tyX11 k) := by decide +kernel
abbrev cX11_states : ByteArray := prog_6_method_5_code
def yX11_states : MethodName := ⟨RX11, "states", "()I"⟩
def dkwX11_states_0 : List UInt8 := [42, 180, 0, 20, 180, 0, 60, 42, 180, 0, 24, 180, 0, 60, 104, 172]
abbrev dktX11_states_0 : List UInt8 := dkwX11_states_0 ++ []
theorem dksX11_states_0 : cX11_states.data.toList.drop 0 = dktX11_states_0 := by decide +kernel
theorem dX11_states_0 : decode cX11_states 0 = .ok (.aload_n 0, 1) := dk_42 (dk_at dksX11_states_0 0 rfl rfl)
theorem dX11_states_1 : decode cX11_states 1 = .ok (.getfield 20, 3) := dk_180 0 20 (dk_at dksX11_states_0 1 rfl rfl)
theorem dX11_states_4 : decode cX11_states 4 = .ok (.getfield 60, 3) := dk_180 0 60 (dk_at dksX11_states_0 4 rfl rfl)
theorem dX11_states_7 : decode cX11_states 7 = .ok (.aload_n 0, 1) := dk_42 (dk_at dksX11_states_0 7 rfl rfl)
theorem dX11_states_8 : decode cX11_states 8 = .ok (.getfield 24, 3) := dk_180 0 24 (dk_at dksX11_states_0 8 rfl rfl)
theorem dX11_states_11 : decode cX11_states 11 = .ok (.getfield 60, 3) := dk_180 0 60 (dk_at dksX11_states_0 11 rfl rfl)
theorem dX11_states_14 : decode cX11_states 14 = .ok (.imul, 1) := dk_104 (dk_at dksX11_states_0 14 rfl rfl)
theorem dX11_states_15 : decode cX11_states 15 = .ok (.ireturn, 1) := dk_172 (dk_at dksX11_states_0 15 rfl rfl)
abbrev cX11_arcs : ByteArray := prog_6_method_6_code
def yX11_arcs : MethodName := ⟨RX11, "arcs", "()Ljava/util/ArrayList;"⟩
theorem dX11_arcs_0 : decode cX11_arcs 0 = .ok (.aload_n 0, 1) := by decide +kernel
theorem dX11_arcs_1 : decode cX11_arcs 1 = .ok (.getfield 14, 3) := by decide +kernel
theorem dX11_arcs_4 : decode cX11_arcs 4 = .ok (.areturn, 1) := by decide +kernel
abbrev cX11_end : ByteArray := prog_6_method_7_code
def yX11_end : MethodName := ⟨RX11, "end", "(I)I"⟩
def dkwX11_end_2 : List UInt8 := [167, 0, 6, 28, 29, 96, 172]
abbrev dktX11_end_2 : List UInt8 := dkwX11_end_2 ++ []
def dkwX11_end_1 : List UInt8 := [180, 0, 24, 180, 0, 60, 112, 182, 0, 102, 62, 28, 2, 159, 0, 8, 29, 2, 160, 0, 7, 2]
abbrev dktX11_end_1 : List UInt8 := dkwX11_end_1 ++ dktX11_end_2
def dkwX11_end_0 : List UInt8 := [42, 180, 0, 20, 27, 42, 180, 0, 24, 180, 0, 60, 108, 182, 0, 102, 61, 42, 180, 0, 24, 27, 42]
abbrev dktX11_end_0 : List UInt8 := dkwX11_end_0 ++ dktX11_end_1
theorem dksX11_end_0 : cX11_end.data.toList.drop 0 = dktX11_end_0 := by decide +kernel
theorem dksX11_end_1 : cX11_end.data.toList.drop 23 = dktX11_end_1 := dk_seg dksX11_end_0 23 rfl rfl
theorem dksX11_end_2 : cX11_end.data.toList.drop 45 = dktX11_end_2 := dk_seg dksX11_end_1 22 rfl rfl
theorem dX11_end_0 : decode cX11_end 0 = .ok (.aload_n 0, 1) := dk_42 (dk_at dksX11_end_0 0 rfl rfl)
theorem dX11_end_1 : decode cX11_end 1 = .ok (.getfield 20, 3) := dk_180 0 20 (dk_at dksX11_end_0 1 rfl rfl)
theorem dX11_end_4 : decode cX11_end 4 = .ok (.iload_n 1, 1) := dk_27 (dk_at dksX11_end_0 4 rfl rfl)
theorem dX11_end_5 : decode cX11_end 5 = .ok (.aload_n 0, 1) := dk_42 (dk_at dksX11_end_0 5 rfl rfl)
theorem dX11_end_6 : decode cX11_end 6 = .ok (.getfield 24, 3) := dk_180 0 24 (dk_at dksX11_end_0 6 rfl rfl)
theorem dX11_end_9 : decode cX11_end 9 = .ok (.getfield 60, 3) := dk_180 0 60 (dk_at dksX11_end_0 9 rfl rfl)
theorem dX11_end_12 : decode cX11_end 12 = .ok (.idiv, 1) := dk_108 (dk_at dksX11_end_0 12 rfl rfl)
theorem dX11_end_13 : decode cX11_end 13 = .ok (.invokevirtual 102, 3) := dk_182 0 102 (dk_at dksX11_end_0 13 rfl rfl)
theorem dX11_end_16 : decode cX11_end 16 = .ok (.istore_n 2, 1) := dk_61 (dk_at dksX11_end_0 16 rfl rfl)
theorem dX11_end_17 : decode cX11_end 17 = .ok (.aload_n 0, 1) := dk_42 (dk_at dksX11_end_0 17 rfl rfl)
theorem dX11_end_18 : decode cX11_end 18 = .ok (.getfield 24, 3) := dk_180 0 24 (dk_at dksX11_end_0 18 rfl rfl)
theorem dX11_end_21 : decode cX11_end 21 = .ok (.iload_n 1, 1) := dk_27 (dk_at dksX11_end_0 21 rfl rfl)
theorem dX11_end_22 : decode cX11_end 22 = .ok (.aload_n 0, 1) := dk_42 (dk_at dksX11_end_0 22 rfl rfl)
theorem dX11_end_23 : decode cX11_end 23 = .ok (.getfield 24, 3) := dk_180 0 24 (dk_at dksX11_end_1 0 rfl rfl)
theorem dX11_end_26 : decode cX11_end 26 = .ok (.getfield 60, 3) := dk_180 0 60 (dk_at dksX11_end_1 3 rfl rfl)
theorem dX11_end_29 : decode cX11_end 29 = .ok (.irem, 1) := dk_112 (dk_at dksX11_end_1 6 rfl rfl)
theorem dX11_end_30 : decode cX11_end 30 = .ok (.invokevirtual 102, 3) := dk_182 0 102 (dk_at dksX11_end_1 7 rfl rfl)
theorem dX11_end_33 : decode cX11_end 33 = .ok (.istore_n 3, 1) := dk_62 (dk_at dksX11_end_1 10 rfl rfl)
theorem dX11_end_34 : decode cX11_end 34 = .ok (.iload_n 2, 1) := dk_28 (dk_at dksX11_end_1 11 rfl rfl)
theorem dX11_end_35 : decode cX11_end 35 = .ok (.iconst (-1), 1) := dk_2 (dk_at dksX11_end_1 12 rfl rfl)
theorem dX11_end_36 : decode cX11_end 36 = .ok (.if_icmp .eq 8, 3) := dk_159 0 8 (dk_at dksX11_end_1 13 rfl rfl)
theorem dX11_end_39 : decode cX11_end 39 = .ok (.iload_n 3, 1) := dk_29 (dk_at dksX11_end_1 16 rfl rfl)
theorem dX11_end_40 : decode cX11_end 40 = .ok (.iconst (-1), 1) := dk_2 (dk_at dksX11_end_1 17 rfl rfl)
theorem dX11_end_41 : decode cX11_end 41 = .ok (.if_icmp .ne 7, 3) := dk_160 0 7 (dk_at dksX11_end_1 18 rfl rfl)
theorem dX11_end_44 : decode cX11_end 44 = .ok (.iconst (-1), 1) := dk_2 (dk_at dksX11_end_1 21 rfl rfl)
theorem dX11_end_45 : decode cX11_end 45 = .ok (.goto 6, 3) := dk_167 0 6 (dk_at dksX11_end_2 0 rfl rfl)
theorem dX11_end_48 : decode cX11_end 48 = .ok (.iload_n 2, 1) := dk_28 (dk_at dksX11_end_2 3 rfl rfl)
theorem dX11_end_49 : decode cX11_end 49 = .ok (.iload_n 3, 1) := dk_29 (dk_at dksX11_end_2 4 rfl rfl)
theorem dX11_end_50 : decode cX11_end 50 = .ok (.iadd, 1) := dk_96 (dk_at dksX11_end_2 5 rfl rfl)
theorem dX11_end_51 : decode cX11_end 51 = .ok (.ireturn, 1) := dk_172 (dk_at dksX11_end_2 6 rfl rfl)
abbrev cX11_init : ByteArray := prog_6_method_1_code
def yX11_init : MethodName := ⟨RX11, "<init>", "(LChantRules$Rule;LChantRules$Rule;[LChantRules$Test;)V"⟩
def dkwX11_init_8 : List UInt8 := [25, 6, 180, 0, 76, 184, 0, 79, 182, 0, 83, 87, 132, 7, 1, 167, 255, 200, 167, 255, 157, 177]
abbrev dktX11_init_8 : List UInt8 := dkwX11_init_8 ++ []
def dkwX11_init_7 : List UInt8 := [180, 0, 64, 182, 0, 67, 42, 21, 7, 25, 6, 180, 0, 71, 182, 0, 67, 7, 25, 6, 180, 0, 74]
abbrev dktX11_init_7 : List UInt8 := dkwX11_init_7 ++ dktX11_init_8
def dkwX11_init_6 : List UInt8 := [58, 6, 3, 54, 7, 21, 7, 43, 180, 0, 60, 162, 0, 53, 42, 180, 0, 14, 42, 21, 7, 25, 6]
abbrev dktX11_init_6 : List UInt8 := dkwX11_init_6 ++ dktX11_init_7
def dkwX11_init_5 : List UInt8 := [185, 0, 40, 1, 0, 192, 0, 44, 58, 5, 25, 5, 193, 0, 58, 153, 0, 72, 25, 5, 192, 0, 58]
abbrev dktX11_init_5 : List UInt8 := dkwX11_init_5 ++ dktX11_init_6
def dkwX11_init_4 : List UInt8 := [167, 255, 199, 44, 180, 0, 27, 182, 0, 30, 58, 4, 25, 4, 185, 0, 34, 1, 0, 153, 0, 95, 25, 4]
abbrev dktX11_init_4 : List UInt8 := dkwX11_init_4 ++ dktX11_init_5
def dkwX11_init_3 : List UInt8 := [25, 5, 182, 0, 50, 167, 0, 18, 42, 25, 5, 45, 25, 5, 185, 0, 46, 1, 0, 50, 182, 0, 54]
abbrev dktX11_init_3 : List UInt8 := dkwX11_init_3 ++ dktX11_init_4
def dkwX11_init_2 : List UInt8 := [25, 4, 185, 0, 40, 1, 0, 192, 0, 44, 58, 5, 25, 5, 185, 0, 46, 1, 0, 7, 160, 0, 12, 42]
abbrev dktX11_init_2 : List UInt8 := dkwX11_init_2 ++ dktX11_init_3
def dkwX11_init_1 : List UInt8 := [44, 181, 0, 24, 43, 180, 0, 27, 182, 0, 30, 58, 4, 25, 4, 185, 0, 34, 1, 0, 153, 0, 53]
abbrev dktX11_init_1 : List UInt8 := dkwX11_init_1 ++ dktX11_init_2
def dkwX11_init_0 : List UInt8 := [42, 183, 0, 3, 42, 187, 0, 9, 89, 17, 0, 144, 183, 0, 11, 181, 0, 14, 42, 43, 181, 0, 20, 42]
abbrev dktX11_init_0 : List UInt8 := dkwX11_init_0 ++ dktX11_init_1
theorem dksX11_init_0 : cX11_init.data.toList.drop 0 = dktX11_init_0 := by decide +kernel
theorem dksX11_init_1 : cX11_init.data.toList.drop 24 = dktX11_init_1 := dk_seg dksX11_init_0 24 rfl rfl
theorem dksX11_init_2 : cX11_init.data.toList.drop 47 = dktX11_init_2 := dk_seg dksX11_init_1 23 rfl rfl
theorem dksX11_init_3 : cX11_init.data.toList.drop 71 = dktX11_init_3 := dk_seg dksX11_init_2 24 rfl rfl
theorem dksX11_init_4 : cX11_init.data.toList.drop 94 = dktX11_init_4 := dk_seg dksX11_init_3 23 rfl rfl
theorem dksX11_init_5 : cX11_init.data.toList.drop 118 = dktX11_init_5 := dk_seg dksX11_init_4 24 rfl rfl
theorem dksX11_init_6 : cX11_init.data.toList.drop 141 = dktX11_init_6 := dk_seg dksX11_init_5 23 rfl rfl
theorem dksX11_init_7 : cX11_init.data.toList.drop 164 = dktX11_init_7 := dk_seg dksX11_init_6 23 rfl rfl
theorem dksX11_init_8 : cX11_init.data.toList.drop 187 = dktX11_init_8 := dk_seg dksX11_init_7 23 rfl rfl
theorem dX11_init_0 : decode cX11_init 0 = .ok (.aload_n 0, 1) := dk_42 (dk_at dksX11_init_0 0 rfl rfl)
theorem dX11_init_1 : decode cX11_init 1 = .ok (.invokespecial 3, 3) := dk_183 0 3 (dk_at dksX11_init_0 1 rfl rfl)
theorem dX11_init_4 : decode cX11_init 4 = .ok (.aload_n 0, 1) := dk_42 (dk_at dksX11_init_0 4 rfl rfl)
theorem dX11_init_5 : decode cX11_init 5 = .ok (.new 9, 3) := dk_187 0 9 (dk_at dksX11_init_0 5 rfl rfl)
theorem dX11_init_8 : decode cX11_init 8 = .ok (.dup, 1) := dk_89 (dk_at dksX11_init_0 8 rfl rfl)
theorem dX11_init_9 : decode cX11_init 9 = .ok (.sipush 144, 3) := dk_17 0 144 (dk_at dksX11_init_0 9 rfl rfl)
theorem dX11_init_12 : decode cX11_init 12 = .ok (.invokespecial 11, 3) := dk_183 0 11 (dk_at dksX11_init_0 12 rfl rfl)
theorem dX11_init_15 : decode cX11_init 15 = .ok (.putfield 14, 3) := dk_181 0 14 (dk_at dksX11_init_0 15 rfl rfl)
theorem dX11_init_18 : decode cX11_init 18 = .ok (.aload_n 0, 1) := dk_42 (dk_at dksX11_init_0 18 rfl rfl)
theorem dX11_init_19 : decode cX11_init 19 = .ok (.aload_n 1, 1) := dk_43 (dk_at dksX11_init_0 19 rfl rfl)
theorem dX11_init_20 : decode cX11_init 20 = .ok (.putfield 20, 3) := dk_181 0 20 (dk_at dksX11_init_0 20 rfl rfl)
theorem dX11_init_23 : decode cX11_init 23 = .ok (.aload_n 0, 1) := dk_42 (dk_at dksX11_init_0 23 rfl rfl)
theorem dX11_init_24 : decode cX11_init 24 = .ok (.aload_n 2, 1) := dk_44 (dk_at dksX11_init_1 0 rfl rfl)
theorem dX11_init_25 : decode cX11_init 25 = .ok (.putfield 24, 3) := dk_181 0 24 (dk_at dksX11_init_1 1 rfl rfl)
theorem dX11_init_28 : decode cX11_init 28 = .ok (.aload_n 1, 1) := dk_43 (dk_at dksX11_init_1 4 rfl rfl)
theorem dX11_init_29 : decode cX11_init 29 = .ok (.getfield 27, 3) := dk_180 0 27 (dk_at dksX11_init_1 5 rfl rfl)
theorem dX11_init_32 : decode cX11_init 32 = .ok (.invokevirtual 30, 3) := dk_182 0 30 (dk_at dksX11_init_1 8 rfl rfl)
theorem dX11_init_35 : decode cX11_init 35 = .ok (.astore 4, 2) := dk_58 4 (dk_at dksX11_init_1 11 rfl rfl)
theorem dX11_init_37 : decode cX11_init 37 = .ok (.aload 4, 2) := dk_25 4 (dk_at dksX11_init_1 13 rfl rfl)
theorem dX11_init_39 : decode cX11_init 39 = .ok (.invokeinterface 34 1, 5) := by decide +kernel
theorem dX11_init_44 : decode cX11_init 44 = .ok (.ifCond .eq 53, 3) := dk_153 0 53 (dk_at dksX11_init_1 20 rfl rfl)
theorem dX11_init_47 : decode cX11_init 47 = .ok (.aload 4, 2) := dk_25 4 (dk_at dksX11_init_2 0 rfl rfl)
theorem dX11_init_49 : decode cX11_init 49 = .ok (.invokeinterface 40 1, 5) := by decide +kernel
theorem dX11_init_54 : decode cX11_init 54 = .ok (.checkcast 44, 3) := dk_192 0 44 (dk_at dksX11_init_2 7 rfl rfl)
theorem dX11_init_57 : decode cX11_init 57 = .ok (.astore 5, 2) := dk_58 5 (dk_at dksX11_init_2 10 rfl rfl)
theorem dX11_init_59 : decode cX11_init 59 = .ok (.aload 5, 2) := dk_25 5 (dk_at dksX11_init_2 12 rfl rfl)
theorem dX11_init_61 : decode cX11_init 61 = .ok (.invokeinterface 46 1, 5) := by decide +kernel
theorem dX11_init_66 : decode cX11_init 66 = .ok (.iconst 4, 1) := dk_7 (dk_at dksX11_init_2 19 rfl rfl)
theorem dX11_init_67 : decode cX11_init 67 = .ok (.if_icmp .ne 12, 3) := dk_160 0 12 (dk_at dksX11_init_2 20 rfl rfl)
theorem dX11_init_70 : decode cX11_init 70 = .ok (.aload_n 0, 1) := dk_42 (dk_at dksX11_init_2 23 rfl rfl)
theorem dX11_init_71 : decode cX11_init 71 = .ok (.aload 5, 2) := dk_25 5 (dk_at dksX11_init_3 0 rfl rfl)
theorem dX11_init_73 : decode cX11_init 73 = .ok (.invokevirtual 50, 3) := dk_182 0 50 (dk_at dksX11_init_3 2 rfl rfl)
theorem dX11_init_76 : decode cX11_init 76 = .ok (.goto 18, 3) := dk_167 0 18 (dk_at dksX11_init_3 5 rfl rfl)
theorem dX11_init_79 : decode cX11_init 79 = .ok (.aload_n 0, 1) := dk_42 (dk_at dksX11_init_3 8 rfl rfl)
theorem dX11_init_80 : decode cX11_init 80 = .ok (.aload 5, 2) := dk_25 5 (dk_at dksX11_init_3 9 rfl rfl)
theorem dX11_init_82 : decode cX11_init 82 = .ok (.aload_n 3, 1) := dk_45 (dk_at dksX11_init_3 11 rfl rfl)
theorem dX11_init_83 : decode cX11_init 83 = .ok (.aload 5, 2) := dk_25 5 (dk_at dksX11_init_3 12 rfl rfl)
theorem dX11_init_85 : decode cX11_init 85 = .ok (.invokeinterface 46 1, 5) := by decide +kernel
theorem dX11_init_90 : decode cX11_init 90 = .ok (.aaload, 1) := dk_50 (dk_at dksX11_init_3 19 rfl rfl)
theorem dX11_init_91 : decode cX11_init 91 = .ok (.invokevirtual 54, 3) := dk_182 0 54 (dk_at dksX11_init_3 20 rfl rfl)
theorem dX11_init_94 : decode cX11_init 94 = .ok (.goto (-57), 3) := dk_167 255 199 (dk_at dksX11_init_4 0 rfl rfl)
theorem dX11_init_97 : decode cX11_init 97 = .ok (.aload_n 2, 1) := dk_44 (dk_at dksX11_init_4 3 rfl rfl)
theorem dX11_init_98 : decode cX11_init 98 = .ok (.getfield 27, 3) := dk_180 0 27 (dk_at dksX11_init_4 4 rfl rfl)
theorem dX11_init_101 : decode cX11_init 101 = .ok (.invokevirtual 30, 3) := dk_182 0 30 (dk_at dksX11_init_4 7 rfl rfl)
theorem dX11_init_104 : decode cX11_init 104 = .ok (.astore 4, 2) := dk_58 4 (dk_at dksX11_init_4 10 rfl rfl)
theorem dX11_init_106 : decode cX11_init 106 = .ok (.aload 4, 2) := dk_25 4 (dk_at dksX11_init_4 12 rfl rfl)
theorem dX11_init_108 : decode cX11_init 108 = .ok (.invokeinterface 34 1, 5) := by decide +kernel
theorem dX11_init_113 : decode cX11_init 113 = .ok (.ifCond .eq 95, 3) := dk_153 0 95 (dk_at dksX11_init_4 19 rfl rfl)
theorem dX11_init_116 : decode cX11_init 116 = .ok (.aload 4, 2) := dk_25 4 (dk_at dksX11_init_4 22 rfl rfl)
theorem dX11_init_118 : decode cX11_init 118 = .ok (.invokeinterface 40 1, 5) := by decide +kernel
theorem dX11_init_123 : decode cX11_init 123 = .ok (.checkcast 44, 3) := dk_192 0 44 (dk_at dksX11_init_5 5 rfl rfl)
theorem dX11_init_126 : decode cX11_init 126 = .ok (.astore 5, 2) := dk_58 5 (dk_at dksX11_init_5 8 rfl rfl)
theorem dX11_init_128 : decode cX11_init 128 = .ok (.aload 5, 2) := dk_25 5 (dk_at dksX11_init_5 10 rfl rfl)
theorem dX11_init_130 : decode cX11_init 130 = .ok (.instanceof 58, 3) := dk_193 0 58 (dk_at dksX11_init_5 12 rfl rfl)
theorem dX11_init_133 : decode cX11_init 133 = .ok (.ifCond .eq 72, 3) := dk_153 0 72 (dk_at dksX11_init_5 15 rfl rfl)
theorem dX11_init_136 : decode cX11_init 136 = .ok (.aload 5, 2) := dk_25 5 (dk_at dksX11_init_5 18 rfl rfl)
theorem dX11_init_138 : decode cX11_init 138 = .ok (.checkcast 58, 3) := dk_192 0 58 (dk_at dksX11_init_5 20 rfl rfl)
theorem dX11_init_141 : decode cX11_init 141 = .ok (.astore 6, 2) := dk_58 6 (dk_at dksX11_init_6 0 rfl rfl)
theorem dX11_init_143 : decode cX11_init 143 = .ok (.iconst 0, 1) := dk_3 (dk_at dksX11_init_6 2 rfl rfl)
theorem dX11_init_144 : decode cX11_init 144 = .ok (.istore 7, 2) := dk_54 7 (dk_at dksX11_init_6 3 rfl rfl)
theorem dX11_init_146 : decode cX11_init 146 = .ok (.iload 7, 2) := dk_21 7 (dk_at dksX11_init_6 5 rfl rfl)
theorem dX11_init_148 : decode cX11_init 148 = .ok (.aload_n 1, 1) := dk_43 (dk_at dksX11_init_6 7 rfl rfl)
theorem dX11_init_149 : decode cX11_init 149 = .ok (.getfield 60, 3) := dk_180 0 60 (dk_at dksX11_init_6 8 rfl rfl)
theorem dX11_init_152 : decode cX11_init 152 = .ok (.if_icmp .ge 53, 3) := dk_162 0 53 (dk_at dksX11_init_6 11 rfl rfl)
theorem dX11_init_155 : decode cX11_init 155 = .ok (.aload_n 0, 1) := dk_42 (dk_at dksX11_init_6 14 rfl rfl)
theorem dX11_init_156 : decode cX11_init 156 = .ok (.getfield 14, 3) := dk_180 0 14 (dk_at dksX11_init_6 15 rfl rfl)
theorem dX11_init_159 : decode cX11_init 159 = .ok (.aload_n 0, 1) := dk_42 (dk_at dksX11_init_6 18 rfl rfl)
theorem dX11_init_160 : decode cX11_init 160 = .ok (.iload 7, 2) := dk_21 7 (dk_at dksX11_init_6 19 rfl rfl)
theorem dX11_init_162 : decode cX11_init 162 = .ok (.aload 6, 2) := dk_25 6 (dk_at dksX11_init_6 21 rfl rfl)
theorem dX11_init_164 : decode cX11_init 164 = .ok (.getfield 64, 3) := dk_180 0 64 (dk_at dksX11_init_7 0 rfl rfl)
theorem dX11_init_167 : decode cX11_init 167 = .ok (.invokevirtual 67, 3) := dk_182 0 67 (dk_at dksX11_init_7 3 rfl rfl)
theorem dX11_init_170 : decode cX11_init 170 = .ok (.aload_n 0, 1) := dk_42 (dk_at dksX11_init_7 6 rfl rfl)
theorem dX11_init_171 : decode cX11_init 171 = .ok (.iload 7, 2) := dk_21 7 (dk_at dksX11_init_7 7 rfl rfl)
theorem dX11_init_173 : decode cX11_init 173 = .ok (.aload 6, 2) := dk_25 6 (dk_at dksX11_init_7 9 rfl rfl)
theorem dX11_init_175 : decode cX11_init 175 = .ok (.getfield 71, 3) := dk_180 0 71 (dk_at dksX11_init_7 11 rfl rfl)
theorem dX11_init_178 : decode cX11_init 178 = .ok (.invokevirtual 67, 3) := dk_182 0 67 (dk_at dksX11_init_7 14 rfl rfl)
theorem dX11_init_181 : decode cX11_init 181 = .ok (.iconst 4, 1) := dk_7 (dk_at dksX11_init_7 17 rfl rfl)
theorem dX11_init_182 : decode cX11_init 182 = .ok (.aload 6, 2) := dk_25 6 (dk_at dksX11_init_7 18 rfl rfl)
theorem dX11_init_184 : decode cX11_init 184 = .ok (.getfield 74, 3) := dk_180 0 74 (dk_at dksX11_init_7 20 rfl rfl)
theorem dX11_init_187 : decode cX11_init 187 = .ok (.aload 6, 2) := dk_25 6 (dk_at dksX11_init_8 0 rfl rfl)
theorem dX11_init_189 : decode cX11_init 189 = .ok (.getfield 76, 3) := dk_180 0 76 (dk_at dksX11_init_8 2 rfl rfl)
theorem dX11_init_192 : decode cX11_init 192 = .ok (.invokestatic 79, 3) := dk_184 0 79 (dk_at dksX11_init_8 5 rfl rfl)
theorem dX11_init_195 : decode cX11_init 195 = .ok (.invokevirtual 83, 3) := dk_182 0 83 (dk_at dksX11_init_8 8 rfl rfl)
theorem dX11_init_198 : decode cX11_init 198 = .ok (.pop, 1) := dk_87 (dk_at dksX11_init_8 11 rfl rfl)
theorem dX11_init_199 : decode cX11_init 199 = .ok (.iinc 7 1, 3) := dk_132 7 1 (dk_at dksX11_init_8 12 rfl rfl)
theorem dX11_init_202 : decode cX11_init 202 = .ok (.goto (-56), 3) := dk_167 255 200 (dk_at dksX11_init_8 15 rfl rfl)
theorem dX11_init_205 : decode cX11_init 205 = .ok (.goto (-99), 3) := dk_167 255 157 (dk_at dksX11_init_8 18 rfl rfl)
theorem dX11_init_208 : decode cX11_init 208 = .ok (.return_, 1) := dk_177 (dk_at dksX11_init_8 21 rfl rfl)
abbrev cX11_alone : ByteArray := prog_6_method_3_code
def yX11_alone : MethodName := ⟨RX11, "alone", "(LChantRules$Arc;)V"⟩
def dkwX11_alone_2 : List UInt8 := [185, 0, 94, 1, 0, 184, 0, 79, 182, 0, 83, 87, 132, 2, 1, 167, 255, 196, 177]
abbrev dktX11_alone_2 : List UInt8 := dkwX11_alone_2 ++ []
def dkwX11_alone_1 : List UInt8 := [28, 182, 0, 67, 42, 43, 185, 0, 89, 1, 0, 28, 182, 0, 67, 43, 185, 0, 91, 1, 0, 7, 43]
abbrev dktX11_alone_1 : List UInt8 := dkwX11_alone_1 ++ dktX11_alone_2
def dkwX11_alone_0 : List UInt8 := [3, 61, 28, 42, 180, 0, 24, 180, 0, 60, 162, 0, 55, 42, 180, 0, 14, 42, 43, 185, 0, 87, 1, 0]
abbrev dktX11_alone_0 : List UInt8 := dkwX11_alone_0 ++ dktX11_alone_1
theorem dksX11_alone_0 : cX11_alone.data.toList.drop 0 = dktX11_alone_0 := by decide +kernel
theorem dksX11_alone_1 : cX11_alone.data.toList.drop 24 = dktX11_alone_1 := dk_seg dksX11_alone_0 24 rfl rfl
theorem dksX11_alone_2 : cX11_alone.data.toList.drop 47 = dktX11_alone_2 := dk_seg dksX11_alone_1 23 rfl rfl
theorem dX11_alone_0 : decode cX11_alone 0 = .ok (.iconst 0, 1) := dk_3 (dk_at dksX11_alone_0 0 rfl rfl)
theorem dX11_alone_1 : decode cX11_alone 1 = .ok (.istore_n 2, 1) := dk_61 (dk_at dksX11_alone_0 1 rfl rfl)
theorem dX11_alone_2 : decode cX11_alone 2 = .ok (.iload_n 2, 1) := dk_28 (dk_at dksX11_alone_0 2 rfl rfl)
theorem dX11_alone_3 : decode cX11_alone 3 = .ok (.aload_n 0, 1) := dk_42 (dk_at dksX11_alone_0 3 rfl rfl)
theorem dX11_alone_4 : decode cX11_alone 4 = .ok (.getfield 24, 3) := dk_180 0 24 (dk_at dksX11_alone_0 4 rfl rfl)
theorem dX11_alone_7 : decode cX11_alone 7 = .ok (.getfield 60, 3) := dk_180 0 60 (dk_at dksX11_alone_0 7 rfl rfl)
theorem dX11_alone_10 : decode cX11_alone 10 = .ok (.if_icmp .ge 55, 3) := dk_162 0 55 (dk_at dksX11_alone_0 10 rfl rfl)
theorem dX11_alone_13 : decode cX11_alone 13 = .ok (.aload_n 0, 1) := dk_42 (dk_at dksX11_alone_0 13 rfl rfl)
theorem dX11_alone_14 : decode cX11_alone 14 = .ok (.getfield 14, 3) := dk_180 0 14 (dk_at dksX11_alone_0 14 rfl rfl)
theorem dX11_alone_17 : decode cX11_alone 17 = .ok (.aload_n 0, 1) := dk_42 (dk_at dksX11_alone_0 17 rfl rfl)
theorem dX11_alone_18 : decode cX11_alone 18 = .ok (.aload_n 1, 1) := dk_43 (dk_at dksX11_alone_0 18 rfl rfl)
theorem dX11_alone_19 : decode cX11_alone 19 = .ok (.invokeinterface 87 1, 5) := by decide +kernel
theorem dX11_alone_24 : decode cX11_alone 24 = .ok (.iload_n 2, 1) := dk_28 (dk_at dksX11_alone_1 0 rfl rfl)
theorem dX11_alone_25 : decode cX11_alone 25 = .ok (.invokevirtual 67, 3) := dk_182 0 67 (dk_at dksX11_alone_1 1 rfl rfl)
theorem dX11_alone_28 : decode cX11_alone 28 = .ok (.aload_n 0, 1) := dk_42 (dk_at dksX11_alone_1 4 rfl rfl)
theorem dX11_alone_29 : decode cX11_alone 29 = .ok (.aload_n 1, 1) := dk_43 (dk_at dksX11_alone_1 5 rfl rfl)
theorem dX11_alone_30 : decode cX11_alone 30 = .ok (.invokeinterface 89 1, 5) := by decide +kernel
theorem dX11_alone_35 : decode cX11_alone 35 = .ok (.iload_n 2, 1) := dk_28 (dk_at dksX11_alone_1 11 rfl rfl)
theorem dX11_alone_36 : decode cX11_alone 36 = .ok (.invokevirtual 67, 3) := dk_182 0 67 (dk_at dksX11_alone_1 12 rfl rfl)
theorem dX11_alone_39 : decode cX11_alone 39 = .ok (.aload_n 1, 1) := dk_43 (dk_at dksX11_alone_1 15 rfl rfl)
theorem dX11_alone_40 : decode cX11_alone 40 = .ok (.invokeinterface 91 1, 5) := by decide +kernel
theorem dX11_alone_45 : decode cX11_alone 45 = .ok (.iconst 4, 1) := dk_7 (dk_at dksX11_alone_1 21 rfl rfl)
theorem dX11_alone_46 : decode cX11_alone 46 = .ok (.aload_n 1, 1) := dk_43 (dk_at dksX11_alone_1 22 rfl rfl)
theorem dX11_alone_47 : decode cX11_alone 47 = .ok (.invokeinterface 94 1, 5) := by decide +kernel
theorem dX11_alone_52 : decode cX11_alone 52 = .ok (.invokestatic 79, 3) := dk_184 0 79 (dk_at dksX11_alone_2 5 rfl rfl)
theorem dX11_alone_55 : decode cX11_alone 55 = .ok (.invokevirtual 83, 3) := dk_182 0 83 (dk_at dksX11_alone_2 8 rfl rfl)
theorem dX11_alone_58 : decode cX11_alone 58 = .ok (.pop, 1) := dk_87 (dk_at dksX11_alone_2 11 rfl rfl)
theorem dX11_alone_59 : decode cX11_alone 59 = .ok (.iinc 2 1, 3) := dk_132 2 1 (dk_at dksX11_alone_2 12 rfl rfl)
theorem dX11_alone_62 : decode cX11_alone 62 = .ok (.goto (-60), 3) := dk_167 255 196 (dk_at dksX11_alone_2 15 rfl rfl)
theorem dX11_alone_65 : decode cX11_alone 65 = .ok (.return_, 1) := dk_177 (dk_at dksX11_alone_2 18 rfl rfl)
abbrev cX11_pair : ByteArray := prog_6_method_2_code
def yX11_pair : MethodName := ⟨RX11, "pair", "(II)I"⟩
def dkwX11_pair_0 : List UInt8 := [42, 180, 0, 24, 180, 0, 60, 27, 104, 28, 96, 172]
abbrev dktX11_pair_0 : List UInt8 := dkwX11_pair_0 ++ []
theorem dksX11_pair_0 : cX11_pair.data.toList.drop 0 = dktX11_pair_0 := by decide +kernel
theorem dX11_pair_0 : decode cX11_pair 0 = .ok (.aload_n 0, 1) := dk_42 (dk_at dksX11_pair_0 0 rfl rfl)
theorem dX11_pair_1 : decode cX11_pair 1 = .ok (.getfield 24, 3) := dk_180 0 24 (dk_at dksX11_pair_0 1 rfl rfl)
theorem dX11_pair_4 : decode cX11_pair 4 = .ok (.getfield 60, 3) := dk_180 0 60 (dk_at dksX11_pair_0 4 rfl rfl)
theorem dX11_pair_7 : decode cX11_pair 7 = .ok (.iload_n 1, 1) := dk_27 (dk_at dksX11_pair_0 7 rfl rfl)
theorem dX11_pair_8 : decode cX11_pair 8 = .ok (.imul, 1) := dk_104 (dk_at dksX11_pair_0 8 rfl rfl)
theorem dX11_pair_9 : decode cX11_pair 9 = .ok (.iload_n 2, 1) := dk_28 (dk_at dksX11_pair_0 9 rfl rfl)
theorem dX11_pair_10 : decode cX11_pair 10 = .ok (.iadd, 1) := dk_96 (dk_at dksX11_pair_0 10 rfl rfl)
theorem dX11_pair_11 : decode cX11_pair 11 = .ok (.ireturn, 1) := dk_172 (dk_at dksX11_pair_0 11 rfl rfl)
abbrev cX11_with : ByteArray := prog_6_method_4_code
def yX11_with : MethodName := ⟨RX11, "with", "(LChantRules$Arc;LChantRules$Test;)V"⟩
def dkwX11_with_5 : List UInt8 := [182, 0, 83, 87, 167, 255, 153, 177]
abbrev dktX11_with_5 : List UInt8 := dkwX11_with_5 ++ []
def dkwX11_with_4 : List UInt8 := [185, 0, 46, 1, 0, 43, 185, 0, 94, 1, 0, 25, 4, 185, 0, 94, 1, 0, 96, 184, 0, 79]
abbrev dktX11_with_4 : List UInt8 := dkwX11_with_4 ++ dktX11_with_5
def dkwX11_with_3 : List UInt8 := [185, 0, 89, 1, 0, 25, 4, 185, 0, 89, 1, 0, 182, 0, 67, 43, 185, 0, 91, 1, 0, 25, 4]
abbrev dktX11_with_3 : List UInt8 := dkwX11_with_3 ++ dktX11_with_4
def dkwX11_with_2 : List UInt8 := [180, 0, 14, 42, 43, 185, 0, 87, 1, 0, 25, 4, 185, 0, 87, 1, 0, 182, 0, 67, 42, 43]
abbrev dktX11_with_2 : List UInt8 := dkwX11_with_2 ++ dktX11_with_3
def dkwX11_with_1 : List UInt8 := [185, 0, 40, 1, 0, 192, 0, 44, 58, 4, 44, 25, 4, 185, 0, 96, 2, 0, 153, 0, 75, 42]
abbrev dktX11_with_1 : List UInt8 := dkwX11_with_1 ++ dktX11_with_2
def dkwX11_with_0 : List UInt8 := [42, 180, 0, 24, 180, 0, 27, 182, 0, 30, 78, 45, 185, 0, 34, 1, 0, 153, 0, 100, 45]
abbrev dktX11_with_0 : List UInt8 := dkwX11_with_0 ++ dktX11_with_1
theorem dksX11_with_0 : cX11_with.data.toList.drop 0 = dktX11_with_0 := by decide +kernel
theorem dksX11_with_1 : cX11_with.data.toList.drop 21 = dktX11_with_1 := dk_seg dksX11_with_0 21 rfl rfl
theorem dksX11_with_2 : cX11_with.data.toList.drop 43 = dktX11_with_2 := dk_seg dksX11_with_1 22 rfl rfl
theorem dksX11_with_3 : cX11_with.data.toList.drop 65 = dktX11_with_3 := dk_seg dksX11_with_2 22 rfl rfl
theorem dksX11_with_4 : cX11_with.data.toList.drop 88 = dktX11_with_4 := dk_seg dksX11_with_3 23 rfl rfl
theorem dksX11_with_5 : cX11_with.data.toList.drop 110 = dktX11_with_5 := dk_seg dksX11_with_4 22 rfl rfl
theorem dX11_with_0 : decode cX11_with 0 = .ok (.aload_n 0, 1) := dk_42 (dk_at dksX11_with_0 0 rfl rfl)
theorem dX11_with_1 : decode cX11_with 1 = .ok (.getfield 24, 3) := dk_180 0 24 (dk_at dksX11_with_0 1 rfl rfl)
theorem dX11_with_4 : decode cX11_with 4 = .ok (.getfield 27, 3) := dk_180 0 27 (dk_at dksX11_with_0 4 rfl rfl)
theorem dX11_with_7 : decode cX11_with 7 = .ok (.invokevirtual 30, 3) := dk_182 0 30 (dk_at dksX11_with_0 7 rfl rfl)
theorem dX11_with_10 : decode cX11_with 10 = .ok (.astore_n 3, 1) := dk_78 (dk_at dksX11_with_0 10 rfl rfl)
theorem dX11_with_11 : decode cX11_with 11 = .ok (.aload_n 3, 1) := dk_45 (dk_at dksX11_with_0 11 rfl rfl)
theorem dX11_with_12 : decode cX11_with 12 = .ok (.invokeinterface 34 1, 5) := by decide +kernel
theorem dX11_with_17 : decode cX11_with 17 = .ok (.ifCond .eq 100, 3) := dk_153 0 100 (dk_at dksX11_with_0 17 rfl rfl)
theorem dX11_with_20 : decode cX11_with 20 = .ok (.aload_n 3, 1) := dk_45 (dk_at dksX11_with_0 20 rfl rfl)
theorem dX11_with_21 : decode cX11_with 21 = .ok (.invokeinterface 40 1, 5) := by decide +kernel
theorem dX11_with_26 : decode cX11_with 26 = .ok (.checkcast 44, 3) := dk_192 0 44 (dk_at dksX11_with_1 5 rfl rfl)
theorem dX11_with_29 : decode cX11_with 29 = .ok (.astore 4, 2) := dk_58 4 (dk_at dksX11_with_1 8 rfl rfl)
theorem dX11_with_31 : decode cX11_with 31 = .ok (.aload_n 2, 1) := dk_44 (dk_at dksX11_with_1 10 rfl rfl)
theorem dX11_with_32 : decode cX11_with 32 = .ok (.aload 4, 2) := dk_25 4 (dk_at dksX11_with_1 11 rfl rfl)
theorem dX11_with_34 : decode cX11_with 34 = .ok (.invokeinterface 96 2, 5) := by decide +kernel
theorem dX11_with_39 : decode cX11_with 39 = .ok (.ifCond .eq 75, 3) := dk_153 0 75 (dk_at dksX11_with_1 18 rfl rfl)
theorem dX11_with_42 : decode cX11_with 42 = .ok (.aload_n 0, 1) := dk_42 (dk_at dksX11_with_1 21 rfl rfl)
theorem dX11_with_43 : decode cX11_with 43 = .ok (.getfield 14, 3) := dk_180 0 14 (dk_at dksX11_with_2 0 rfl rfl)
theorem dX11_with_46 : decode cX11_with 46 = .ok (.aload_n 0, 1) := dk_42 (dk_at dksX11_with_2 3 rfl rfl)
theorem dX11_with_47 : decode cX11_with 47 = .ok (.aload_n 1, 1) := dk_43 (dk_at dksX11_with_2 4 rfl rfl)
theorem dX11_with_48 : decode cX11_with 48 = .ok (.invokeinterface 87 1, 5) := by decide +kernel
theorem dX11_with_53 : decode cX11_with 53 = .ok (.aload 4, 2) := dk_25 4 (dk_at dksX11_with_2 10 rfl rfl)
theorem dX11_with_55 : decode cX11_with 55 = .ok (.invokeinterface 87 1, 5) := by decide +kernel
theorem dX11_with_60 : decode cX11_with 60 = .ok (.invokevirtual 67, 3) := dk_182 0 67 (dk_at dksX11_with_2 17 rfl rfl)
theorem dX11_with_63 : decode cX11_with 63 = .ok (.aload_n 0, 1) := dk_42 (dk_at dksX11_with_2 20 rfl rfl)
theorem dX11_with_64 : decode cX11_with 64 = .ok (.aload_n 1, 1) := dk_43 (dk_at dksX11_with_2 21 rfl rfl)
theorem dX11_with_65 : decode cX11_with 65 = .ok (.invokeinterface 89 1, 5) := by decide +kernel
theorem dX11_with_70 : decode cX11_with 70 = .ok (.aload 4, 2) := dk_25 4 (dk_at dksX11_with_3 5 rfl rfl)
theorem dX11_with_72 : decode cX11_with 72 = .ok (.invokeinterface 89 1, 5) := by decide +kernel
theorem dX11_with_77 : decode cX11_with 77 = .ok (.invokevirtual 67, 3) := dk_182 0 67 (dk_at dksX11_with_3 12 rfl rfl)
theorem dX11_with_80 : decode cX11_with 80 = .ok (.aload_n 1, 1) := dk_43 (dk_at dksX11_with_3 15 rfl rfl)
theorem dX11_with_81 : decode cX11_with 81 = .ok (.invokeinterface 91 1, 5) := by decide +kernel
theorem dX11_with_86 : decode cX11_with 86 = .ok (.aload 4, 2) := dk_25 4 (dk_at dksX11_with_3 21 rfl rfl)
theorem dX11_with_88 : decode cX11_with 88 = .ok (.invokeinterface 46 1, 5) := by decide +kernel
theorem dX11_with_93 : decode cX11_with 93 = .ok (.aload_n 1, 1) := dk_43 (dk_at dksX11_with_4 5 rfl rfl)
theorem dX11_with_94 : decode cX11_with 94 = .ok (.invokeinterface 94 1, 5) := by decide +kernel
theorem dX11_with_99 : decode cX11_with 99 = .ok (.aload 4, 2) := dk_25 4 (dk_at dksX11_with_4 11 rfl rfl)
theorem dX11_with_101 : decode cX11_with 101 = .ok (.invokeinterface 94 1, 5) := by decide +kernel
theorem dX11_with_106 : decode cX11_with 106 = .ok (.iadd, 1) := dk_96 (dk_at dksX11_with_4 18 rfl rfl)
theorem dX11_with_107 : decode cX11_with 107 = .ok (.invokestatic 79, 3) := dk_184 0 79 (dk_at dksX11_with_4 19 rfl rfl)
theorem dX11_with_110 : decode cX11_with 110 = .ok (.invokevirtual 83, 3) := dk_182 0 83 (dk_at dksX11_with_5 0 rfl rfl)
theorem dX11_with_113 : decode cX11_with 113 = .ok (.pop, 1) := dk_87 (dk_at dksX11_with_5 3 rfl rfl)
theorem dX11_with_114 : decode cX11_with 114 = .ok (.goto (-103), 3) := dk_167 255 153 (dk_at dksX11_with_5 4 rfl rfl)
theorem dX11_with_117 : decode cX11_with 117 = .ok (.return_, 1) := dk_177 (dk_at dksX11_with_5 7 rfl rfl)
abbrev cX11_value : ByteArray := prog_6_method_8_code
def yX11_value : MethodName := ⟨RX11, "value", "(I)I"⟩
def dkwX11_value_10 : List UInt8 := [167, 0, 5, 16, 244, 172]
abbrev dktX11_value_10 : List UInt8 := dkwX11_value_10 ++ []
def dkwX11_value_9 : List UInt8 := [29, 167, 0, 27, 42, 182, 0, 113, 167, 0, 20, 21, 5, 167, 0, 15, 21, 6, 167, 0, 10, 21, 4]
abbrev dktX11_value_9 : List UInt8 := dkwX11_value_9 ++ dktX11_value_10
def dkwX11_value_8 : List UInt8 := [170, 0, 0, 0, 59, 0, 0, 0, 0, 0, 0, 0, 4, 0, 0, 0, 33, 0, 0, 0, 37, 0, 0, 0, 44, 0, 0, 0, 49, 0, 0, 0, 54]
abbrev dktX11_value_8 : List UInt8 := dkwX11_value_8 ++ dktX11_value_9
def dkwX11_value_7 : List UInt8 := [54, 6, 167, 255, 182, 27]
abbrev dktX11_value_7 : List UInt8 := dkwX11_value_7 ++ dktX11_value_8
def dkwX11_value_6 : List UInt8 := [185, 0, 87, 1, 0, 51, 153, 0, 15, 25, 8, 193, 0, 58, 153, 0, 7, 4, 167, 0, 4, 3, 96]
abbrev dktX11_value_6 : List UInt8 := dkwX11_value_6 ++ dktX11_value_7
def dkwX11_value_5 : List UInt8 := [185, 0, 87, 1, 0, 51, 153, 0, 7, 4, 167, 0, 4, 3, 96, 54, 5, 21, 6, 44, 25, 8]
abbrev dktX11_value_5 : List UInt8 := dkwX11_value_5 ++ dktX11_value_6
def dkwX11_value_4 : List UInt8 := [153, 0, 70, 25, 7, 185, 0, 40, 1, 0, 192, 0, 44, 58, 8, 21, 5, 44, 25, 8]
abbrev dktX11_value_4 : List UInt8 := dkwX11_value_4 ++ dktX11_value_5
def dkwX11_value_3 : List UInt8 := [132, 7, 1, 167, 255, 202, 42, 180, 0, 14, 182, 0, 30, 58, 7, 25, 7, 185, 0, 34, 1, 0]
abbrev dktX11_value_3 : List UInt8 := dkwX11_value_3 ++ dktX11_value_4
def dkwX11_value_2 : List UInt8 := [21, 7, 51, 153, 0, 17, 42, 21, 7, 182, 0, 112, 2, 159, 0, 7, 4, 167, 0, 4, 3, 96, 54, 4]
abbrev dktX11_value_2 : List UInt8 := dkwX11_value_2 ++ dktX11_value_3
def dkwX11_value_1 : List UInt8 := [182, 0, 110, 162, 0, 51, 29, 44, 21, 7, 51, 153, 0, 7, 4, 167, 0, 4, 3, 96, 62, 21, 4, 44]
abbrev dktX11_value_1 : List UInt8 := dkwX11_value_1 ++ dktX11_value_2
def dkwX11_value_0 : List UInt8 := [42, 182, 0, 106, 77, 3, 62, 3, 54, 4, 3, 54, 5, 3, 54, 6, 3, 54, 7, 21, 7, 42]
abbrev dktX11_value_0 : List UInt8 := dkwX11_value_0 ++ dktX11_value_1
theorem dksX11_value_0 : cX11_value.data.toList.drop 0 = dktX11_value_0 := by decide +kernel
theorem dksX11_value_1 : cX11_value.data.toList.drop 22 = dktX11_value_1 := dk_seg dksX11_value_0 22 rfl rfl
theorem dksX11_value_2 : cX11_value.data.toList.drop 46 = dktX11_value_2 := dk_seg dksX11_value_1 24 rfl rfl
theorem dksX11_value_3 : cX11_value.data.toList.drop 70 = dktX11_value_3 := dk_seg dksX11_value_2 24 rfl rfl
theorem dksX11_value_4 : cX11_value.data.toList.drop 92 = dktX11_value_4 := dk_seg dksX11_value_3 22 rfl rfl
theorem dksX11_value_5 : cX11_value.data.toList.drop 112 = dktX11_value_5 := dk_seg dksX11_value_4 20 rfl rfl
theorem dksX11_value_6 : cX11_value.data.toList.drop 134 = dktX11_value_6 := dk_seg dksX11_value_5 22 rfl rfl
theorem dksX11_value_7 : cX11_value.data.toList.drop 157 = dktX11_value_7 := dk_seg dksX11_value_6 23 rfl rfl
theorem dksX11_value_8 : cX11_value.data.toList.drop 163 = dktX11_value_8 := dk_seg dksX11_value_7 6 rfl rfl
theorem dksX11_value_9 : cX11_value.data.toList.drop 196 = dktX11_value_9 := dk_seg dksX11_value_8 33 rfl rfl
theorem dksX11_value_10 : cX11_value.data.toList.drop 219 = dktX11_value_10 := dk_seg dksX11_value_9 23 rfl rfl
theorem dX11_value_0 : decode cX11_value 0 = .ok (.aload_n 0, 1) := dk_42 (dk_at dksX11_value_0 0 rfl rfl)
theorem dX11_value_1 : decode cX11_value 1 = .ok (.invokevirtual 106, 3) := dk_182 0 106 (dk_at dksX11_value_0 1 rfl rfl)
theorem dX11_value_4 : decode cX11_value 4 = .ok (.astore_n 2, 1) := dk_77 (dk_at dksX11_value_0 4 rfl rfl)
theorem dX11_value_5 : decode cX11_value 5 = .ok (.iconst 0, 1) := dk_3 (dk_at dksX11_value_0 5 rfl rfl)
theorem dX11_value_6 : decode cX11_value 6 = .ok (.istore_n 3, 1) := dk_62 (dk_at dksX11_value_0 6 rfl rfl)
theorem dX11_value_7 : decode cX11_value 7 = .ok (.iconst 0, 1) := dk_3 (dk_at dksX11_value_0 7 rfl rfl)
theorem dX11_value_8 : decode cX11_value 8 = .ok (.istore 4, 2) := dk_54 4 (dk_at dksX11_value_0 8 rfl rfl)
theorem dX11_value_10 : decode cX11_value 10 = .ok (.iconst 0, 1) := dk_3 (dk_at dksX11_value_0 10 rfl rfl)
theorem dX11_value_11 : decode cX11_value 11 = .ok (.istore 5, 2) := dk_54 5 (dk_at dksX11_value_0 11 rfl rfl)
theorem dX11_value_13 : decode cX11_value 13 = .ok (.iconst 0, 1) := dk_3 (dk_at dksX11_value_0 13 rfl rfl)
theorem dX11_value_14 : decode cX11_value 14 = .ok (.istore 6, 2) := dk_54 6 (dk_at dksX11_value_0 14 rfl rfl)
theorem dX11_value_16 : decode cX11_value 16 = .ok (.iconst 0, 1) := dk_3 (dk_at dksX11_value_0 16 rfl rfl)
theorem dX11_value_17 : decode cX11_value 17 = .ok (.istore 7, 2) := dk_54 7 (dk_at dksX11_value_0 17 rfl rfl)
theorem dX11_value_19 : decode cX11_value 19 = .ok (.iload 7, 2) := dk_21 7 (dk_at dksX11_value_0 19 rfl rfl)
theorem dX11_value_21 : decode cX11_value 21 = .ok (.aload_n 0, 1) := dk_42 (dk_at dksX11_value_0 21 rfl rfl)
theorem dX11_value_22 : decode cX11_value 22 = .ok (.invokevirtual 110, 3) := dk_182 0 110 (dk_at dksX11_value_1 0 rfl rfl)
theorem dX11_value_25 : decode cX11_value 25 = .ok (.if_icmp .ge 51, 3) := dk_162 0 51 (dk_at dksX11_value_1 3 rfl rfl)
theorem dX11_value_28 : decode cX11_value 28 = .ok (.iload_n 3, 1) := dk_29 (dk_at dksX11_value_1 6 rfl rfl)
theorem dX11_value_29 : decode cX11_value 29 = .ok (.aload_n 2, 1) := dk_44 (dk_at dksX11_value_1 7 rfl rfl)
theorem dX11_value_30 : decode cX11_value 30 = .ok (.iload 7, 2) := dk_21 7 (dk_at dksX11_value_1 8 rfl rfl)
theorem dX11_value_32 : decode cX11_value 32 = .ok (.baload, 1) := dk_51 (dk_at dksX11_value_1 10 rfl rfl)
theorem dX11_value_33 : decode cX11_value 33 = .ok (.ifCond .eq 7, 3) := dk_153 0 7 (dk_at dksX11_value_1 11 rfl rfl)
theorem dX11_value_36 : decode cX11_value 36 = .ok (.iconst 1, 1) := dk_4 (dk_at dksX11_value_1 14 rfl rfl)
theorem dX11_value_37 : decode cX11_value 37 = .ok (.goto 4, 3) := dk_167 0 4 (dk_at dksX11_value_1 15 rfl rfl)
theorem dX11_value_40 : decode cX11_value 40 = .ok (.iconst 0, 1) := dk_3 (dk_at dksX11_value_1 18 rfl rfl)
theorem dX11_value_41 : decode cX11_value 41 = .ok (.iadd, 1) := dk_96 (dk_at dksX11_value_1 19 rfl rfl)
theorem dX11_value_42 : decode cX11_value 42 = .ok (.istore_n 3, 1) := dk_62 (dk_at dksX11_value_1 20 rfl rfl)
theorem dX11_value_43 : decode cX11_value 43 = .ok (.iload 4, 2) := dk_21 4 (dk_at dksX11_value_1 21 rfl rfl)
theorem dX11_value_45 : decode cX11_value 45 = .ok (.aload_n 2, 1) := dk_44 (dk_at dksX11_value_1 23 rfl rfl)
theorem dX11_value_46 : decode cX11_value 46 = .ok (.iload 7, 2) := dk_21 7 (dk_at dksX11_value_2 0 rfl rfl)
theorem dX11_value_48 : decode cX11_value 48 = .ok (.baload, 1) := dk_51 (dk_at dksX11_value_2 2 rfl rfl)
theorem dX11_value_49 : decode cX11_value 49 = .ok (.ifCond .eq 17, 3) := dk_153 0 17 (dk_at dksX11_value_2 3 rfl rfl)
theorem dX11_value_52 : decode cX11_value 52 = .ok (.aload_n 0, 1) := dk_42 (dk_at dksX11_value_2 6 rfl rfl)
theorem dX11_value_53 : decode cX11_value 53 = .ok (.iload 7, 2) := dk_21 7 (dk_at dksX11_value_2 7 rfl rfl)
theorem dX11_value_55 : decode cX11_value 55 = .ok (.invokevirtual 112, 3) := dk_182 0 112 (dk_at dksX11_value_2 9 rfl rfl)
theorem dX11_value_58 : decode cX11_value 58 = .ok (.iconst (-1), 1) := dk_2 (dk_at dksX11_value_2 12 rfl rfl)
theorem dX11_value_59 : decode cX11_value 59 = .ok (.if_icmp .eq 7, 3) := dk_159 0 7 (dk_at dksX11_value_2 13 rfl rfl)
theorem dX11_value_62 : decode cX11_value 62 = .ok (.iconst 1, 1) := dk_4 (dk_at dksX11_value_2 16 rfl rfl)
theorem dX11_value_63 : decode cX11_value 63 = .ok (.goto 4, 3) := dk_167 0 4 (dk_at dksX11_value_2 17 rfl rfl)
theorem dX11_value_66 : decode cX11_value 66 = .ok (.iconst 0, 1) := dk_3 (dk_at dksX11_value_2 20 rfl rfl)
theorem dX11_value_67 : decode cX11_value 67 = .ok (.iadd, 1) := dk_96 (dk_at dksX11_value_2 21 rfl rfl)
theorem dX11_value_68 : decode cX11_value 68 = .ok (.istore 4, 2) := dk_54 4 (dk_at dksX11_value_2 22 rfl rfl)
theorem dX11_value_70 : decode cX11_value 70 = .ok (.iinc 7 1, 3) := dk_132 7 1 (dk_at dksX11_value_3 0 rfl rfl)
theorem dX11_value_73 : decode cX11_value 73 = .ok (.goto (-54), 3) := dk_167 255 202 (dk_at dksX11_value_3 3 rfl rfl)
theorem dX11_value_76 : decode cX11_value 76 = .ok (.aload_n 0, 1) := dk_42 (dk_at dksX11_value_3 6 rfl rfl)
theorem dX11_value_77 : decode cX11_value 77 = .ok (.getfield 14, 3) := dk_180 0 14 (dk_at dksX11_value_3 7 rfl rfl)
theorem dX11_value_80 : decode cX11_value 80 = .ok (.invokevirtual 30, 3) := dk_182 0 30 (dk_at dksX11_value_3 10 rfl rfl)
theorem dX11_value_83 : decode cX11_value 83 = .ok (.astore 7, 2) := dk_58 7 (dk_at dksX11_value_3 13 rfl rfl)
theorem dX11_value_85 : decode cX11_value 85 = .ok (.aload 7, 2) := dk_25 7 (dk_at dksX11_value_3 15 rfl rfl)
theorem dX11_value_87 : decode cX11_value 87 = .ok (.invokeinterface 34 1, 5) := by decide +kernel
theorem dX11_value_92 : decode cX11_value 92 = .ok (.ifCond .eq 70, 3) := dk_153 0 70 (dk_at dksX11_value_4 0 rfl rfl)
theorem dX11_value_95 : decode cX11_value 95 = .ok (.aload 7, 2) := dk_25 7 (dk_at dksX11_value_4 3 rfl rfl)
theorem dX11_value_97 : decode cX11_value 97 = .ok (.invokeinterface 40 1, 5) := by decide +kernel
theorem dX11_value_102 : decode cX11_value 102 = .ok (.checkcast 44, 3) := dk_192 0 44 (dk_at dksX11_value_4 10 rfl rfl)
theorem dX11_value_105 : decode cX11_value 105 = .ok (.astore 8, 2) := dk_58 8 (dk_at dksX11_value_4 13 rfl rfl)
theorem dX11_value_107 : decode cX11_value 107 = .ok (.iload 5, 2) := dk_21 5 (dk_at dksX11_value_4 15 rfl rfl)
theorem dX11_value_109 : decode cX11_value 109 = .ok (.aload_n 2, 1) := dk_44 (dk_at dksX11_value_4 17 rfl rfl)
theorem dX11_value_110 : decode cX11_value 110 = .ok (.aload 8, 2) := dk_25 8 (dk_at dksX11_value_4 18 rfl rfl)
theorem dX11_value_112 : decode cX11_value 112 = .ok (.invokeinterface 87 1, 5) := by decide +kernel
theorem dX11_value_117 : decode cX11_value 117 = .ok (.baload, 1) := dk_51 (dk_at dksX11_value_5 5 rfl rfl)
theorem dX11_value_118 : decode cX11_value 118 = .ok (.ifCond .eq 7, 3) := dk_153 0 7 (dk_at dksX11_value_5 6 rfl rfl)
theorem dX11_value_121 : decode cX11_value 121 = .ok (.iconst 1, 1) := dk_4 (dk_at dksX11_value_5 9 rfl rfl)
theorem dX11_value_122 : decode cX11_value 122 = .ok (.goto 4, 3) := dk_167 0 4 (dk_at dksX11_value_5 10 rfl rfl)
theorem dX11_value_125 : decode cX11_value 125 = .ok (.iconst 0, 1) := dk_3 (dk_at dksX11_value_5 13 rfl rfl)
theorem dX11_value_126 : decode cX11_value 126 = .ok (.iadd, 1) := dk_96 (dk_at dksX11_value_5 14 rfl rfl)
theorem dX11_value_127 : decode cX11_value 127 = .ok (.istore 5, 2) := dk_54 5 (dk_at dksX11_value_5 15 rfl rfl)
theorem dX11_value_129 : decode cX11_value 129 = .ok (.iload 6, 2) := dk_21 6 (dk_at dksX11_value_5 17 rfl rfl)
theorem dX11_value_131 : decode cX11_value 131 = .ok (.aload_n 2, 1) := dk_44 (dk_at dksX11_value_5 19 rfl rfl)
theorem dX11_value_132 : decode cX11_value 132 = .ok (.aload 8, 2) := dk_25 8 (dk_at dksX11_value_5 20 rfl rfl)
theorem dX11_value_134 : decode cX11_value 134 = .ok (.invokeinterface 87 1, 5) := by decide +kernel
theorem dX11_value_139 : decode cX11_value 139 = .ok (.baload, 1) := dk_51 (dk_at dksX11_value_6 5 rfl rfl)
theorem dX11_value_140 : decode cX11_value 140 = .ok (.ifCond .eq 15, 3) := dk_153 0 15 (dk_at dksX11_value_6 6 rfl rfl)
theorem dX11_value_143 : decode cX11_value 143 = .ok (.aload 8, 2) := dk_25 8 (dk_at dksX11_value_6 9 rfl rfl)
theorem dX11_value_145 : decode cX11_value 145 = .ok (.instanceof 58, 3) := dk_193 0 58 (dk_at dksX11_value_6 11 rfl rfl)
theorem dX11_value_148 : decode cX11_value 148 = .ok (.ifCond .eq 7, 3) := dk_153 0 7 (dk_at dksX11_value_6 14 rfl rfl)
theorem dX11_value_151 : decode cX11_value 151 = .ok (.iconst 1, 1) := dk_4 (dk_at dksX11_value_6 17 rfl rfl)
theorem dX11_value_152 : decode cX11_value 152 = .ok (.goto 4, 3) := dk_167 0 4 (dk_at dksX11_value_6 18 rfl rfl)
theorem dX11_value_155 : decode cX11_value 155 = .ok (.iconst 0, 1) := dk_3 (dk_at dksX11_value_6 21 rfl rfl)
theorem dX11_value_156 : decode cX11_value 156 = .ok (.iadd, 1) := dk_96 (dk_at dksX11_value_6 22 rfl rfl)
theorem dX11_value_157 : decode cX11_value 157 = .ok (.istore 6, 2) := dk_54 6 (dk_at dksX11_value_7 0 rfl rfl)
theorem dX11_value_159 : decode cX11_value 159 = .ok (.goto (-74), 3) := dk_167 255 182 (dk_at dksX11_value_7 2 rfl rfl)
theorem dX11_value_162 : decode cX11_value 162 = .ok (.iload_n 1, 1) := dk_27 (dk_at dksX11_value_7 5 rfl rfl)
theorem dX11_value_163 : decode cX11_value 163 = .ok (.tableswitch 59 0 4 #[33, 37, 44, 49, 54], 33) := by decide +kernel
theorem dX11_value_196 : decode cX11_value 196 = .ok (.iload_n 3, 1) := dk_29 (dk_at dksX11_value_9 0 rfl rfl)
theorem dX11_value_197 : decode cX11_value 197 = .ok (.goto 27, 3) := dk_167 0 27 (dk_at dksX11_value_9 1 rfl rfl)
theorem dX11_value_200 : decode cX11_value 200 = .ok (.aload_n 0, 1) := dk_42 (dk_at dksX11_value_9 4 rfl rfl)
theorem dX11_value_201 : decode cX11_value 201 = .ok (.invokevirtual 113, 3) := dk_182 0 113 (dk_at dksX11_value_9 5 rfl rfl)
theorem dX11_value_204 : decode cX11_value 204 = .ok (.goto 20, 3) := dk_167 0 20 (dk_at dksX11_value_9 8 rfl rfl)
theorem dX11_value_207 : decode cX11_value 207 = .ok (.iload 5, 2) := dk_21 5 (dk_at dksX11_value_9 11 rfl rfl)
theorem dX11_value_209 : decode cX11_value 209 = .ok (.goto 15, 3) := dk_167 0 15 (dk_at dksX11_value_9 13 rfl rfl)
theorem dX11_value_212 : decode cX11_value 212 = .ok (.iload 6, 2) := dk_21 6 (dk_at dksX11_value_9 16 rfl rfl)
theorem dX11_value_214 : decode cX11_value 214 = .ok (.goto 10, 3) := dk_167 0 10 (dk_at dksX11_value_9 18 rfl rfl)
theorem dX11_value_217 : decode cX11_value 217 = .ok (.iload 4, 2) := dk_21 4 (dk_at dksX11_value_9 21 rfl rfl)
theorem dX11_value_219 : decode cX11_value 219 = .ok (.goto 5, 3) := dk_167 0 5 (dk_at dksX11_value_10 0 rfl rfl)
theorem dX11_value_222 : decode cX11_value 222 = .ok (.bipush (-12), 2) := dk_16 244 (dk_at dksX11_value_10 3 rfl rfl)
theorem dX11_value_224 : decode cX11_value 224 = .ok (.ireturn, 1) := dk_172 (dk_at dksX11_value_10 5 rfl rfl)
theorem q106 : (Jvm.Cond.initialized "ChantRules$Composed") ∈ lw_all := lw_g (lw_at lw_m1 31 rfl) rfl
theorem q176 : (Jvm.Cond.fieldLinkNest "ChantRules$Composed" (27 : Nat) "ChantRules$Rule" "arcs" "Ljava/util/ArrayList;" "ChantRules") ∈ lw_tbl := lw_at lw_m1 101 rfl
theorem q181 : (Jvm.Cond.fieldLinkNest "ChantRules$Composed" (60 : Nat) "ChantRules$Rule" "states" "I" "ChantRules") ∈ lw_tbl := lw_at lw_m1 106 rfl
theorem q439 : (Jvm.Cond.selects "ChantRules$Composed" ({ cls := "java/lang/Object", name := "getClass", desc := "()Ljava/lang/Class;" } : Jvm.MethodName) ({ cls := "java/lang/Object", name := "getClass", desc := "()Ljava/lang/Class;" } : Jvm.MethodName)) ∈ lw_all := lw_g (lw_at lw_m2 124 rfl) rfl
theorem q640 : (Jvm.Cond.fieldLinkNest "ChantRules$Composed" (64 : Nat) "ChantRules$Breathed" "from" "I" "ChantRules") ∈ lw_tbl := lw_at lw_m3 85 rfl
theorem q642 : (Jvm.Cond.fieldLinkNest "ChantRules$Composed" (71 : Nat) "ChantRules$Breathed" "to" "I" "ChantRules") ∈ lw_tbl := lw_at lw_m3 87 rfl
theorem q644 : (Jvm.Cond.fieldLinkNest "ChantRules$Composed" (74 : Nat) "ChantRules$Breathed" "sings" "I" "ChantRules") ∈ lw_tbl := lw_at lw_m3 89 rfl
theorem q646 : (Jvm.Cond.fieldLinkNest "ChantRules$Composed" (76 : Nat) "ChantRules$Breathed" "weight" "I" "ChantRules") ∈ lw_tbl := lw_at lw_m3 91 rfl
theorem q863 : (Jvm.Cond.selects "ChantRules$Composed" ({ cls := "ChantRules$Machine", name := "from", desc := "(IZ)[Z" } : Jvm.MethodName) ({ cls := "ChantRules$Machine", name := "from", desc := "(IZ)[Z" } : Jvm.MethodName)) ∈ lw_all := lw_g (lw_at lw_m4 68 rfl) rfl
theorem q869 : (Jvm.Cond.selects "ChantRules$Composed" ({ cls := "ChantRules$Machine", name := "states", desc := "()I" } : Jvm.MethodName) ({ cls := "ChantRules$Composed", name := "states", desc := "()I" } : Jvm.MethodName)) ∈ lw_all := lw_g (lw_at lw_m4 74 rfl) rfl
theorem q870 : (Jvm.Cond.instanceMethod ({ cls := "ChantRules$Composed", name := "states", desc := "()I" } : Jvm.MethodName)) ∈ lw_all := lw_g (lw_at lw_m4 75 rfl) rfl
theorem q871 : (Jvm.Cond.code ({ cls := "ChantRules$Composed", name := "states", desc := "()I" } : Jvm.MethodName) prog_6_method_5_code (1 : Nat) (Option.some Jvm.ClassFile.FieldType.int)) ∈ lw_all := lw_g (lw_at lw_m4 76 rfl) rfl
theorem q878 : (Jvm.Cond.selects "ChantRules$Composed" ({ cls := "ChantRules$Machine", name := "arcs", desc := "()Ljava/util/ArrayList;" } : Jvm.MethodName) ({ cls := "ChantRules$Composed", name := "arcs", desc := "()Ljava/util/ArrayList;" } : Jvm.MethodName)) ∈ lw_all := lw_g (lw_at lw_m4 83 rfl) rfl
theorem q879 : (Jvm.Cond.instanceMethod ({ cls := "ChantRules$Composed", name := "arcs", desc := "()Ljava/util/ArrayList;" } : Jvm.MethodName)) ∈ lw_all := lw_g (lw_at lw_m4 84 rfl) rfl
theorem q880 : (Jvm.Cond.code ({ cls := "ChantRules$Composed", name := "arcs", desc := "()Ljava/util/ArrayList;" } : Jvm.MethodName) prog_6_method_6_code (1 : Nat) (Option.some (Jvm.ClassFile.FieldType.object "java/util/ArrayList"))) ∈ lw_all := lw_g (lw_at lw_m4 85 rfl) rfl
theorem q904 : (Jvm.Cond.selects "ChantRules$Composed" ({ cls := "ChantRules$Machine", name := "useful", desc := "()[Z" } : Jvm.MethodName) ({ cls := "ChantRules$Machine", name := "useful", desc := "()[Z" } : Jvm.MethodName)) ∈ lw_all := lw_g (lw_at lw_m4 109 rfl) rfl
theorem q910 : (Jvm.Cond.selects "ChantRules$Composed" ({ cls := "ChantRules$Machine", name := "end", desc := "(I)I" } : Jvm.MethodName) ({ cls := "ChantRules$Composed", name := "end", desc := "(I)I" } : Jvm.MethodName)) ∈ lw_all := lw_g (lw_at lw_m4 115 rfl) rfl
theorem q911 : (Jvm.Cond.instanceMethod ({ cls := "ChantRules$Composed", name := "end", desc := "(I)I" } : Jvm.MethodName)) ∈ lw_all := lw_g (lw_at lw_m4 116 rfl) rfl
theorem q912 : (Jvm.Cond.code ({ cls := "ChantRules$Composed", name := "end", desc := "(I)I" } : Jvm.MethodName) prog_6_method_7_code (4 : Nat) (Option.some Jvm.ClassFile.FieldType.int)) ∈ lw_all := lw_g (lw_at lw_m4 117 rfl) rfl
theorem q913 : (Jvm.Cond.methodLink "ChantRules$Composed" (102 : Nat) ({ cls := "ChantRules$Rule", name := "end", desc := "(I)I" } : Jvm.MethodName)) ∈ lw_all := lw_g (lw_at lw_m4 118 rfl) rfl
theorem q1246 : (Jvm.Cond.instantiable "ChantRules$Composed" (3 : Nat)) ∈ lw_all := lw_g (lw_at lw_m5 211 rfl) rfl
theorem q1248 : (Jvm.Cond.instanceMethod ({ cls := "ChantRules$Composed", name := "<init>", desc := "(LChantRules$Rule;LChantRules$Rule;[LChantRules$Test;)V" } : Jvm.MethodName)) ∈ lw_all := lw_g (lw_at lw_m5 213 rfl) rfl
theorem q1249 : (Jvm.Cond.code ({ cls := "ChantRules$Composed", name := "<init>", desc := "(LChantRules$Rule;LChantRules$Rule;[LChantRules$Test;)V" } : Jvm.MethodName) prog_6_method_1_code (8 : Nat) (Option.none : Option Jvm.ClassFile.FieldType)) ∈ lw_all := lw_g (lw_at lw_m5 214 rfl) rfl
theorem q1250 : (Jvm.Cond.methodLinkNest "ChantRules$Composed" (3 : Nat) ({ cls := "ChantRules$Machine", name := "<init>", desc := "()V" } : Jvm.MethodName) "ChantRules") ∈ lw_tbl := lw_at lw_m5 215 rfl
theorem q1251 : (Jvm.Cond.classLink "ChantRules$Composed" (9 : Nat) "java/util/ArrayList") ∈ lw_all := lw_g (lw_at lw_m5 216 rfl) rfl
theorem q1252 : (Jvm.Cond.methodLink "ChantRules$Composed" (11 : Nat) ({ cls := "java/util/ArrayList", name := "<init>", desc := "(I)V" } : Jvm.MethodName)) ∈ lw_all := lw_g (lw_at lw_m5 217 rfl) rfl
theorem q1253 : (Jvm.Cond.methodLink "ChantRules$Composed" (30 : Nat) ({ cls := "java/util/ArrayList", name := "iterator", desc := "()Ljava/util/Iterator;" } : Jvm.MethodName)) ∈ lw_all := lw_g (lw_at lw_m5 218 rfl) rfl
theorem q1254 : (Jvm.Cond.interfaceEntry "ChantRules$Composed" (34 : Nat)) ∈ lw_tbl := lw_at lw_m5 219 rfl
theorem q1255 : (Jvm.Cond.methodLink "ChantRules$Composed" (34 : Nat) ({ cls := "java/util/Iterator", name := "hasNext", desc := "()Z" } : Jvm.MethodName)) ∈ lw_all := lw_g (lw_at lw_m5 220 rfl) rfl
theorem q1256 : (Jvm.Cond.interfaceEntry "ChantRules$Composed" (40 : Nat)) ∈ lw_tbl := lw_at lw_m5 221 rfl
theorem q1257 : (Jvm.Cond.methodLink "ChantRules$Composed" (40 : Nat) ({ cls := "java/util/Iterator", name := "next", desc := "()Ljava/lang/Object;" } : Jvm.MethodName)) ∈ lw_all := lw_g (lw_at lw_m5 222 rfl) rfl
theorem q1258 : (Jvm.Cond.classLink "ChantRules$Composed" (44 : Nat) "ChantRules$Arc") ∈ lw_all := lw_g (lw_at lw_m5 223 rfl) rfl
theorem q1259 : (Jvm.Cond.interfaceEntry "ChantRules$Composed" (46 : Nat)) ∈ lw_tbl := lw_at lw_m5 224 rfl
theorem q1260 : (Jvm.Cond.methodLink "ChantRules$Composed" (46 : Nat) ({ cls := "ChantRules$Arc", name := "sings", desc := "()I" } : Jvm.MethodName)) ∈ lw_all := lw_g (lw_at lw_m5 225 rfl) rfl
theorem q1261 : (Jvm.Cond.methodLink "ChantRules$Composed" (50 : Nat) ({ cls := "ChantRules$Composed", name := "alone", desc := "(LChantRules$Arc;)V" } : Jvm.MethodName)) ∈ lw_all := lw_g (lw_at lw_m5 226 rfl) rfl
theorem q1262 : (Jvm.Cond.privateMethod ({ cls := "ChantRules$Composed", name := "alone", desc := "(LChantRules$Arc;)V" } : Jvm.MethodName)) ∈ lw_tbl := lw_at lw_m5 227 rfl
theorem q1263 : (Jvm.Cond.instanceMethod ({ cls := "ChantRules$Composed", name := "alone", desc := "(LChantRules$Arc;)V" } : Jvm.MethodName)) ∈ lw_all := lw_g (lw_at lw_m5 228 rfl) rfl
theorem q1264 : (Jvm.Cond.code ({ cls := "ChantRules$Composed", name := "alone", desc := "(LChantRules$Arc;)V" } : Jvm.MethodName) prog_6_method_3_code (3 : Nat) (Option.none : Option Jvm.ClassFile.FieldType)) ∈ lw_all := lw_g (lw_at lw_m5 229 rfl) rfl
theorem q1265 : (Jvm.Cond.interfaceEntry "ChantRules$Composed" (87 : Nat)) ∈ lw_tbl := lw_at lw_m5 230 rfl
theorem q1266 : (Jvm.Cond.methodLink "ChantRules$Composed" (87 : Nat) ({ cls := "ChantRules$Arc", name := "from", desc := "()I" } : Jvm.MethodName)) ∈ lw_all := lw_g (lw_at lw_m5 231 rfl) rfl
theorem q1267 : (Jvm.Cond.methodLink "ChantRules$Composed" (67 : Nat) ({ cls := "ChantRules$Composed", name := "pair", desc := "(II)I" } : Jvm.MethodName)) ∈ lw_all := lw_g (lw_at lw_m5 232 rfl) rfl
theorem q1268 : (Jvm.Cond.privateMethod ({ cls := "ChantRules$Composed", name := "pair", desc := "(II)I" } : Jvm.MethodName)) ∈ lw_tbl := lw_at lw_m5 233 rfl
theorem q1269 : (Jvm.Cond.instanceMethod ({ cls := "ChantRules$Composed", name := "pair", desc := "(II)I" } : Jvm.MethodName)) ∈ lw_all := lw_g (lw_at lw_m5 234 rfl) rfl
theorem q1270 : (Jvm.Cond.code ({ cls := "ChantRules$Composed", name := "pair", desc := "(II)I" } : Jvm.MethodName) prog_6_method_2_code (3 : Nat) (Option.some Jvm.ClassFile.FieldType.int)) ∈ lw_all := lw_g (lw_at lw_m5 235 rfl) rfl
theorem q1271 : (Jvm.Cond.interfaceEntry "ChantRules$Composed" (89 : Nat)) ∈ lw_tbl := lw_at lw_m5 236 rfl
theorem q1272 : (Jvm.Cond.methodLink "ChantRules$Composed" (89 : Nat) ({ cls := "ChantRules$Arc", name := "to", desc := "()I" } : Jvm.MethodName)) ∈ lw_all := lw_g (lw_at lw_m5 237 rfl) rfl
theorem q1273 : (Jvm.Cond.interfaceEntry "ChantRules$Composed" (91 : Nat)) ∈ lw_tbl := lw_at lw_m5 238 rfl
theorem q1274 : (Jvm.Cond.methodLink "ChantRules$Composed" (91 : Nat) ({ cls := "ChantRules$Arc", name := "hears", desc := "()I" } : Jvm.MethodName)) ∈ lw_all := lw_g (lw_at lw_m5 239 rfl) rfl
theorem q1275 : (Jvm.Cond.interfaceEntry "ChantRules$Composed" (94 : Nat)) ∈ lw_tbl := lw_at lw_m6 0 rfl
theorem q1276 : (Jvm.Cond.methodLink "ChantRules$Composed" (94 : Nat) ({ cls := "ChantRules$Arc", name := "weight", desc := "()I" } : Jvm.MethodName)) ∈ lw_all := lw_g (lw_at lw_m6 1 rfl) rfl
theorem q1277 : (Jvm.Cond.methodLinkNest "ChantRules$Composed" (79 : Nat) ({ cls := "ChantRules", name := "arcOf", desc := "(IIIII)LChantRules$Arc;" } : Jvm.MethodName) "ChantRules") ∈ lw_tbl := lw_at lw_m6 2 rfl
theorem q1278 : (Jvm.Cond.methodLink "ChantRules$Composed" (83 : Nat) ({ cls := "java/util/ArrayList", name := "add", desc := "(Ljava/lang/Object;)Z" } : Jvm.MethodName)) ∈ lw_all := lw_g (lw_at lw_m6 3 rfl) rfl
theorem q1279 : (Jvm.Cond.methodLink "ChantRules$Composed" (54 : Nat) ({ cls := "ChantRules$Composed", name := "with", desc := "(LChantRules$Arc;LChantRules$Test;)V" } : Jvm.MethodName)) ∈ lw_all := lw_g (lw_at lw_m6 4 rfl) rfl
theorem q1280 : (Jvm.Cond.privateMethod ({ cls := "ChantRules$Composed", name := "with", desc := "(LChantRules$Arc;LChantRules$Test;)V" } : Jvm.MethodName)) ∈ lw_tbl := lw_at lw_m6 5 rfl
theorem q1281 : (Jvm.Cond.instanceMethod ({ cls := "ChantRules$Composed", name := "with", desc := "(LChantRules$Arc;LChantRules$Test;)V" } : Jvm.MethodName)) ∈ lw_all := lw_g (lw_at lw_m6 6 rfl) rfl
theorem q1282 : (Jvm.Cond.code ({ cls := "ChantRules$Composed", name := "with", desc := "(LChantRules$Arc;LChantRules$Test;)V" } : Jvm.MethodName) prog_6_method_4_code (5 : Nat) (Option.none : Option Jvm.ClassFile.FieldType)) ∈ lw_all := lw_g (lw_at lw_m6 7 rfl) rfl
theorem q1283 : (Jvm.Cond.interfaceEntry "ChantRules$Composed" (96 : Nat)) ∈ lw_tbl := lw_at lw_m6 8 rfl
theorem q1284 : (Jvm.Cond.methodLink "ChantRules$Composed" (96 : Nat) ({ cls := "ChantRules$Test", name := "is", desc := "(LChantRules$Arc;)Z" } : Jvm.MethodName)) ∈ lw_all := lw_g (lw_at lw_m6 9 rfl) rfl
theorem q1287 : (Jvm.Cond.classLink "ChantRules$Composed" (58 : Nat) "ChantRules$Breathed") ∈ lw_all := lw_g (lw_at lw_m6 12 rfl) rfl
theorem q1288 : (Jvm.Cond.fieldLink "ChantRules$Composed" (20 : Nat) "ChantRules$Composed" "one" "LChantRules$Rule;") ∈ lw_all := lw_g (lw_at lw_m6 13 rfl) rfl
theorem q1289 : (Jvm.Cond.fieldLink "ChantRules$Composed" (24 : Nat) "ChantRules$Composed" "other" "LChantRules$Rule;") ∈ lw_all := lw_g (lw_at lw_m6 14 rfl) rfl
theorem q1290 : (Jvm.Cond.fieldLink "ChantRules$Composed" (14 : Nat) "ChantRules$Composed" "arcs" "Ljava/util/ArrayList;") ∈ lw_all := lw_g (lw_at lw_m6 15 rfl) rfl
theorem q1291 : (Jvm.Cond.laysFinal "ChantRules$Composed" "ChantRules$Composed" "one" "LChantRules$Rule;") ∈ lw_all := lw_g (lw_at lw_m6 16 rfl) rfl
theorem q1292 : (Jvm.Cond.soleField "ChantRules$Composed" "one") ∈ lw_all := lw_g (lw_at lw_m6 17 rfl) rfl
theorem q1293 : (Jvm.Cond.laysFinal "ChantRules$Composed" "ChantRules$Composed" "other" "LChantRules$Rule;") ∈ lw_all := lw_g (lw_at lw_m6 18 rfl) rfl
theorem q1294 : (Jvm.Cond.soleField "ChantRules$Composed" "other") ∈ lw_all := lw_g (lw_at lw_m6 19 rfl) rfl
theorem q1295 : (Jvm.Cond.laysFinal "ChantRules$Composed" "ChantRules$Composed" "arcs" "Ljava/util/ArrayList;") ∈ lw_all := lw_g (lw_at lw_m6 20 rfl) rfl
theorem q1296 : (Jvm.Cond.soleField "ChantRules$Composed" "arcs") ∈ lw_all := lw_g (lw_at lw_m6 21 rfl) rfl
theorem q1297 : (Jvm.Cond.superclass "ChantRules$Composed" "ChantRules$Machine") ∈ lw_all := lw_g (lw_at lw_m6 22 rfl) rfl
theorem q1299 : (Jvm.Cond.sameMethod "ChantRules$Composed" "ChantRules$Machine" "reads" "(Ljava/lang/CharSequence;)LChantRules$Way;") ∈ lw_all := lw_g (lw_at lw_m6 24 rfl) rfl
theorem q1300 : (Jvm.Cond.selects "ChantRules$Composed" ({ cls := "ChantRules$Composed", name := "reads", desc := "(Ljava/lang/CharSequence;)LChantRules$Way;" } : Jvm.MethodName) ({ cls := "ChantRules$Machine", name := "reads", desc := "(Ljava/lang/CharSequence;)LChantRules$Way;" } : Jvm.MethodName)) ∈ lw_all := lw_g (lw_at lw_m6 25 rfl) rfl
theorem q1362 : (Jvm.Cond.instanceMethod ({ cls := "ChantRules$Composed", name := "value", desc := "(I)I" } : Jvm.MethodName)) ∈ lw_all := lw_g (lw_at lw_m6 87 rfl) rfl
theorem q1363 : (Jvm.Cond.selects "ChantRules$Composed" ({ cls := "ChantRules$Composed", name := "value", desc := "(I)I" } : Jvm.MethodName) ({ cls := "ChantRules$Composed", name := "value", desc := "(I)I" } : Jvm.MethodName)) ∈ lw_all := lw_g (lw_at lw_m6 88 rfl) rfl
theorem q1364 : (Jvm.Cond.code ({ cls := "ChantRules$Composed", name := "value", desc := "(I)I" } : Jvm.MethodName) prog_6_method_8_code (9 : Nat) (Option.some Jvm.ClassFile.FieldType.int)) ∈ lw_all := lw_g (lw_at lw_m6 89 rfl) rfl
theorem q1365 : (Jvm.Cond.methodLink "ChantRules$Composed" (106 : Nat) ({ cls := "ChantRules$Composed", name := "reached", desc := "()[Z" } : Jvm.MethodName)) ∈ lw_all := lw_g (lw_at lw_m6 90 rfl) rfl
theorem q1366 : (Jvm.Cond.sameMethod "ChantRules$Composed" "ChantRules$Machine" "reached" "()[Z") ∈ lw_all := lw_g (lw_at lw_m6 91 rfl) rfl
theorem q1367 : (Jvm.Cond.selects "ChantRules$Composed" ({ cls := "ChantRules$Composed", name := "reached", desc := "()[Z" } : Jvm.MethodName) ({ cls := "ChantRules$Machine", name := "reached", desc := "()[Z" } : Jvm.MethodName)) ∈ lw_all := lw_g (lw_at lw_m6 92 rfl) rfl
theorem q1368 : (Jvm.Cond.methodLink "ChantRules$Composed" (110 : Nat) ({ cls := "ChantRules$Composed", name := "states", desc := "()I" } : Jvm.MethodName)) ∈ lw_all := lw_g (lw_at lw_m6 93 rfl) rfl
theorem q1369 : (Jvm.Cond.methodLink "ChantRules$Composed" (112 : Nat) ({ cls := "ChantRules$Composed", name := "end", desc := "(I)I" } : Jvm.MethodName)) ∈ lw_all := lw_g (lw_at lw_m6 94 rfl) rfl
theorem q1370 : (Jvm.Cond.methodLink "ChantRules$Composed" (113 : Nat) ({ cls := "ChantRules$Composed", name := "usefulMany", desc := "()I" } : Jvm.MethodName)) ∈ lw_all := lw_g (lw_at lw_m6 95 rfl) rfl
theorem q1371 : (Jvm.Cond.sameMethod "ChantRules$Composed" "ChantRules$Machine" "usefulMany" "()I") ∈ lw_all := lw_g (lw_at lw_m6 96 rfl) rfl
theorem q1373 : (Jvm.Cond.selects "ChantRules$Composed" ({ cls := "ChantRules$Composed", name := "usefulMany", desc := "()I" } : Jvm.MethodName) ({ cls := "ChantRules$Machine", name := "usefulMany", desc := "()I" } : Jvm.MethodName)) ∈ lw_all := lw_g (lw_at lw_m6 98 rfl) rfl
theorem q2340 : (Jvm.Cond.selects "ChantRules$Composed" ({ cls := "ChantRules$Machine", name := "reached", desc := "()[Z" } : Jvm.MethodName) ({ cls := "ChantRules$Machine", name := "reached", desc := "()[Z" } : Jvm.MethodName)) ∈ lw_all := lw_g (lw_at lw_m10 105 rfl) rfl
theorem q2352 : (Jvm.Cond.selects "ChantRules$Composed" ({ cls := "ChantRules$Composed", name := "states", desc := "()I" } : Jvm.MethodName) ({ cls := "ChantRules$Composed", name := "states", desc := "()I" } : Jvm.MethodName)) ∈ lw_all := lw_g (lw_at lw_m10 117 rfl) rfl
theorem q2353 : (Jvm.Cond.selects "ChantRules$Composed" ({ cls := "ChantRules$Composed", name := "end", desc := "(I)I" } : Jvm.MethodName) ({ cls := "ChantRules$Composed", name := "end", desc := "(I)I" } : Jvm.MethodName)) ∈ lw_all := lw_g (lw_at lw_m10 118 rfl) rfl
theorem q2379 : (Jvm.Cond.castable "ChantRules$Composed" "java/lang/Object") ∈ lw_tbl := lw_at lw_m10 144 rfl
theorem in_X11 : ∀ w ∈ wsX110, w ∈ lw_all := lw_in wsX110 [1291, 1293, 1295] (by decide +kernel) (by decide +kernel)
/-! ChantRules$Reader -/
set_option maxRecDepth 100000
def RX12 : String := "ChantRules$Reader"
def TX12 : u_T := fun k => match k with
  | 0 => ("ChantRules$Reader", "at", "I", false)
  | _ => ("ChantRules$Reader", "this$0", "LChantRules;", true)
def tyX12 : Nat → FieldType := fun k => match k with
  | 0 => .int
  | _ => .object "ChantRules"
abbrev wsX120 : List Cond := u_ws RX12 TX12 2
theorem nmX12 : ∀ a, a < 2 → ∀ b, b < 2 → a ≠ b → (TX12 a).2.1 ≠ (TX12 b).2.1 := by decide +kernel
theorem tyX12_ok : ∀ k, k < 2 → parseFieldDescriptor (TX12 k).2.2.1 = some (tyX12 k) := by decide +kernel
abbrev cX12_init : ByteArray := prog_10_method_1_code
def yX12_init : MethodName := ⟨RX12, "<init>", "(LChantRules;)V"⟩
def dkwX12_init_0 : List UInt8 := [42, 43, 181, 0, 3, 42, 183, 0, 9, 177]
abbrev dktX12_init_0 : List UInt8 := dkwX12_init_0 ++ []
theorem dksX12_init_0 : cX12_init.data.toList.drop 0 = dktX12_init_0 := by decide +kernel
theorem dX12_init_0 : decode cX12_init 0 = .ok (.aload_n 0, 1) := dk_42 (dk_at dksX12_init_0 0 rfl rfl)
theorem dX12_init_1 : decode cX12_init 1 = .ok (.aload_n 1, 1) := dk_43 (dk_at dksX12_init_0 1 rfl rfl)
theorem dX12_init_2 : decode cX12_init 2 = .ok (.putfield 3, 3) := dk_181 0 3 (dk_at dksX12_init_0 2 rfl rfl)
theorem dX12_init_5 : decode cX12_init 5 = .ok (.aload_n 0, 1) := dk_42 (dk_at dksX12_init_0 5 rfl rfl)
theorem dX12_init_6 : decode cX12_init 6 = .ok (.invokespecial 9, 3) := dk_183 0 9 (dk_at dksX12_init_0 6 rfl rfl)
theorem dX12_init_9 : decode cX12_init 9 = .ok (.return_, 1) := dk_177 (dk_at dksX12_init_0 9 rfl rfl)
abbrev cX12_commands : ByteArray := prog_10_method_10_code
def yX12_commands : MethodName := ⟨RX12, "commands", "()Ljava/util/LinkedList;"⟩
def dkwX12_commands_2 : List UInt8 := [180, 0, 19, 182, 0, 23, 160, 0, 7, 4, 167, 0, 4, 3, 182, 0, 45, 43, 176]
abbrev dktX12_commands_2 : List UInt8 := dkwX12_commands_2 ++ []
def dkwX12_commands_1 : List UInt8 := [153, 0, 14, 43, 42, 182, 0, 118, 182, 0, 122, 167, 255, 239, 42, 42, 180, 0, 15, 42, 180, 0, 3]
abbrev dktX12_commands_1 : List UInt8 := dkwX12_commands_1 ++ dktX12_commands_2
def dkwX12_commands_0 : List UInt8 := [187, 0, 115, 89, 183, 0, 117, 76, 43, 42, 182, 0, 118, 182, 0, 122, 42, 16, 59, 182, 0, 49]
abbrev dktX12_commands_0 : List UInt8 := dkwX12_commands_0 ++ dktX12_commands_1
theorem dksX12_commands_0 : cX12_commands.data.toList.drop 0 = dktX12_commands_0 := by decide +kernel
theorem dksX12_commands_1 : cX12_commands.data.toList.drop 22 = dktX12_commands_1 := dk_seg dksX12_commands_0 22 rfl rfl
theorem dksX12_commands_2 : cX12_commands.data.toList.drop 45 = dktX12_commands_2 := dk_seg dksX12_commands_1 23 rfl rfl
theorem dX12_commands_0 : decode cX12_commands 0 = .ok (.new 115, 3) := dk_187 0 115 (dk_at dksX12_commands_0 0 rfl rfl)
theorem dX12_commands_3 : decode cX12_commands 3 = .ok (.dup, 1) := dk_89 (dk_at dksX12_commands_0 3 rfl rfl)
theorem dX12_commands_4 : decode cX12_commands 4 = .ok (.invokespecial 117, 3) := dk_183 0 117 (dk_at dksX12_commands_0 4 rfl rfl)
theorem dX12_commands_7 : decode cX12_commands 7 = .ok (.astore_n 1, 1) := dk_76 (dk_at dksX12_commands_0 7 rfl rfl)
theorem dX12_commands_8 : decode cX12_commands 8 = .ok (.aload_n 1, 1) := dk_43 (dk_at dksX12_commands_0 8 rfl rfl)
theorem dX12_commands_9 : decode cX12_commands 9 = .ok (.aload_n 0, 1) := dk_42 (dk_at dksX12_commands_0 9 rfl rfl)
theorem dX12_commands_10 : decode cX12_commands 10 = .ok (.invokevirtual 118, 3) := dk_182 0 118 (dk_at dksX12_commands_0 10 rfl rfl)
theorem dX12_commands_13 : decode cX12_commands 13 = .ok (.invokevirtual 122, 3) := dk_182 0 122 (dk_at dksX12_commands_0 13 rfl rfl)
theorem dX12_commands_16 : decode cX12_commands 16 = .ok (.aload_n 0, 1) := dk_42 (dk_at dksX12_commands_0 16 rfl rfl)
theorem dX12_commands_17 : decode cX12_commands 17 = .ok (.bipush 59, 2) := dk_16 59 (dk_at dksX12_commands_0 17 rfl rfl)
theorem dX12_commands_19 : decode cX12_commands 19 = .ok (.invokevirtual 49, 3) := dk_182 0 49 (dk_at dksX12_commands_0 19 rfl rfl)
theorem dX12_commands_22 : decode cX12_commands 22 = .ok (.ifCond .eq 14, 3) := dk_153 0 14 (dk_at dksX12_commands_1 0 rfl rfl)
theorem dX12_commands_25 : decode cX12_commands 25 = .ok (.aload_n 1, 1) := dk_43 (dk_at dksX12_commands_1 3 rfl rfl)
theorem dX12_commands_26 : decode cX12_commands 26 = .ok (.aload_n 0, 1) := dk_42 (dk_at dksX12_commands_1 4 rfl rfl)
theorem dX12_commands_27 : decode cX12_commands 27 = .ok (.invokevirtual 118, 3) := dk_182 0 118 (dk_at dksX12_commands_1 5 rfl rfl)
theorem dX12_commands_30 : decode cX12_commands 30 = .ok (.invokevirtual 122, 3) := dk_182 0 122 (dk_at dksX12_commands_1 8 rfl rfl)
theorem dX12_commands_33 : decode cX12_commands 33 = .ok (.goto (-17), 3) := dk_167 255 239 (dk_at dksX12_commands_1 11 rfl rfl)
theorem dX12_commands_36 : decode cX12_commands 36 = .ok (.aload_n 0, 1) := dk_42 (dk_at dksX12_commands_1 14 rfl rfl)
theorem dX12_commands_37 : decode cX12_commands 37 = .ok (.aload_n 0, 1) := dk_42 (dk_at dksX12_commands_1 15 rfl rfl)
theorem dX12_commands_38 : decode cX12_commands 38 = .ok (.getfield 15, 3) := dk_180 0 15 (dk_at dksX12_commands_1 16 rfl rfl)
theorem dX12_commands_41 : decode cX12_commands 41 = .ok (.aload_n 0, 1) := dk_42 (dk_at dksX12_commands_1 19 rfl rfl)
theorem dX12_commands_42 : decode cX12_commands 42 = .ok (.getfield 3, 3) := dk_180 0 3 (dk_at dksX12_commands_1 20 rfl rfl)
theorem dX12_commands_45 : decode cX12_commands 45 = .ok (.getfield 19, 3) := dk_180 0 19 (dk_at dksX12_commands_2 0 rfl rfl)
theorem dX12_commands_48 : decode cX12_commands 48 = .ok (.invokevirtual 23, 3) := dk_182 0 23 (dk_at dksX12_commands_2 3 rfl rfl)
theorem dX12_commands_51 : decode cX12_commands 51 = .ok (.if_icmp .ne 7, 3) := dk_160 0 7 (dk_at dksX12_commands_2 6 rfl rfl)
theorem dX12_commands_54 : decode cX12_commands 54 = .ok (.iconst 1, 1) := dk_4 (dk_at dksX12_commands_2 9 rfl rfl)
theorem dX12_commands_55 : decode cX12_commands 55 = .ok (.goto 4, 3) := dk_167 0 4 (dk_at dksX12_commands_2 10 rfl rfl)
theorem dX12_commands_58 : decode cX12_commands 58 = .ok (.iconst 0, 1) := dk_3 (dk_at dksX12_commands_2 13 rfl rfl)
theorem dX12_commands_59 : decode cX12_commands 59 = .ok (.invokevirtual 45, 3) := dk_182 0 45 (dk_at dksX12_commands_2 14 rfl rfl)
theorem dX12_commands_62 : decode cX12_commands 62 = .ok (.aload_n 1, 1) := dk_43 (dk_at dksX12_commands_2 17 rfl rfl)
theorem dX12_commands_63 : decode cX12_commands 63 = .ok (.areturn, 1) := dk_176 (dk_at dksX12_commands_2 18 rfl rfl)
abbrev cX12_command : ByteArray := prog_10_method_9_code
def yX12_command : MethodName := ⟨RX12, "command", "()LChantRules$Command;"⟩
def dkwX12_command_8 : List UInt8 := [176]
abbrev dktX12_command_8 : List UInt8 := dkwX12_command_8 ++ []
def dkwX12_command_7 : List UInt8 := [182, 0, 70, 181, 0, 91, 167, 0, 17, 43, 42, 16, 46, 5, 182, 0, 70, 181, 0, 74, 167, 0, 3, 43]
abbrev dktX12_command_7 : List UInt8 := dkwX12_command_7 ++ dktX12_command_8
def dkwX12_command_6 : List UInt8 := [43, 182, 0, 111, 167, 0, 42, 43, 42, 16, 46, 5, 182, 0, 70, 181, 0, 74, 43, 42, 16, 61, 4]
abbrev dktX12_command_6 : List UInt8 := dkwX12_command_6 ++ dktX12_command_7
def dkwX12_command_5 : List UInt8 := [16, 45, 182, 0, 49, 153, 0, 7, 2, 167, 0, 8, 42, 4, 182, 0, 53, 181, 0, 91, 167, 0, 50, 42]
abbrev dktX12_command_5 : List UInt8 := dkwX12_command_5 ++ dktX12_command_6
def dkwX12_command_4 : List UInt8 := [43, 42, 16, 46, 4, 182, 0, 70, 181, 0, 74, 42, 42, 16, 61, 182, 0, 49, 182, 0, 45, 43, 42]
abbrev dktX12_command_4 : List UInt8 := dkwX12_command_4 ++ dktX12_command_5
def dkwX12_command_3 : List UInt8 := [171, 0, 0, 0, 134, 0, 0, 0, 4, 0, 0, 0, 97, 0, 0, 0, 87, 0, 0, 0, 100, 0, 0, 0, 120, 0, 0, 0, 102, 0, 0, 0, 41, 0, 0, 0, 119, 0, 0, 0, 95]
abbrev dktX12_command_3 : List UInt8 := dkwX12_command_3 ++ dktX12_command_4
def dkwX12_command_2 : List UInt8 := [180, 0, 15, 4, 96, 181, 0, 15, 43, 42, 4, 182, 0, 53, 181, 0, 104, 43, 180, 0, 107]
abbrev dktX12_command_2 : List UInt8 := dkwX12_command_2 ++ dktX12_command_3
def dkwX12_command_1 : List UInt8 := [187, 0, 75, 89, 42, 180, 0, 3, 180, 0, 19, 42, 180, 0, 15, 182, 0, 29, 183, 0, 101, 76, 42, 89]
abbrev dktX12_command_1 : List UInt8 := dkwX12_command_1 ++ dktX12_command_2
def dkwX12_command_0 : List UInt8 := [42, 18, 94, 42, 182, 0, 38, 146, 182, 0, 96, 155, 0, 7, 4, 167, 0, 4, 3, 182, 0, 45]
abbrev dktX12_command_0 : List UInt8 := dkwX12_command_0 ++ dktX12_command_1
theorem dksX12_command_0 : cX12_command.data.toList.drop 0 = dktX12_command_0 := by decide +kernel
theorem dksX12_command_1 : cX12_command.data.toList.drop 22 = dktX12_command_1 := dk_seg dksX12_command_0 22 rfl rfl
theorem dksX12_command_2 : cX12_command.data.toList.drop 46 = dktX12_command_2 := dk_seg dksX12_command_1 24 rfl rfl
theorem dksX12_command_3 : cX12_command.data.toList.drop 67 = dktX12_command_3 := dk_seg dksX12_command_2 21 rfl rfl
theorem dksX12_command_4 : cX12_command.data.toList.drop 108 = dktX12_command_4 := dk_seg dksX12_command_3 41 rfl rfl
theorem dksX12_command_5 : cX12_command.data.toList.drop 131 = dktX12_command_5 := dk_seg dksX12_command_4 23 rfl rfl
theorem dksX12_command_6 : cX12_command.data.toList.drop 155 = dktX12_command_6 := dk_seg dksX12_command_5 24 rfl rfl
theorem dksX12_command_7 : cX12_command.data.toList.drop 178 = dktX12_command_7 := dk_seg dksX12_command_6 23 rfl rfl
theorem dksX12_command_8 : cX12_command.data.toList.drop 202 = dktX12_command_8 := dk_seg dksX12_command_7 24 rfl rfl
theorem dX12_command_0 : decode cX12_command 0 = .ok (.aload_n 0, 1) := dk_42 (dk_at dksX12_command_0 0 rfl rfl)
theorem dX12_command_1 : decode cX12_command 1 = .ok (.ldc 94, 2) := dk_18 94 (dk_at dksX12_command_0 1 rfl rfl)
theorem dX12_command_3 : decode cX12_command 3 = .ok (.aload_n 0, 1) := dk_42 (dk_at dksX12_command_0 3 rfl rfl)
theorem dX12_command_4 : decode cX12_command 4 = .ok (.invokevirtual 38, 3) := dk_182 0 38 (dk_at dksX12_command_0 4 rfl rfl)
theorem dX12_command_7 : decode cX12_command 7 = .ok (.i2c, 1) := dk_146 (dk_at dksX12_command_0 7 rfl rfl)
theorem dX12_command_8 : decode cX12_command 8 = .ok (.invokevirtual 96, 3) := dk_182 0 96 (dk_at dksX12_command_0 8 rfl rfl)
theorem dX12_command_11 : decode cX12_command 11 = .ok (.ifCond .lt 7, 3) := dk_155 0 7 (dk_at dksX12_command_0 11 rfl rfl)
theorem dX12_command_14 : decode cX12_command 14 = .ok (.iconst 1, 1) := dk_4 (dk_at dksX12_command_0 14 rfl rfl)
theorem dX12_command_15 : decode cX12_command 15 = .ok (.goto 4, 3) := dk_167 0 4 (dk_at dksX12_command_0 15 rfl rfl)
theorem dX12_command_18 : decode cX12_command 18 = .ok (.iconst 0, 1) := dk_3 (dk_at dksX12_command_0 18 rfl rfl)
theorem dX12_command_19 : decode cX12_command 19 = .ok (.invokevirtual 45, 3) := dk_182 0 45 (dk_at dksX12_command_0 19 rfl rfl)
theorem dX12_command_22 : decode cX12_command 22 = .ok (.new 75, 3) := dk_187 0 75 (dk_at dksX12_command_1 0 rfl rfl)
theorem dX12_command_25 : decode cX12_command 25 = .ok (.dup, 1) := dk_89 (dk_at dksX12_command_1 3 rfl rfl)
theorem dX12_command_26 : decode cX12_command 26 = .ok (.aload_n 0, 1) := dk_42 (dk_at dksX12_command_1 4 rfl rfl)
theorem dX12_command_27 : decode cX12_command 27 = .ok (.getfield 3, 3) := dk_180 0 3 (dk_at dksX12_command_1 5 rfl rfl)
theorem dX12_command_30 : decode cX12_command 30 = .ok (.getfield 19, 3) := dk_180 0 19 (dk_at dksX12_command_1 8 rfl rfl)
theorem dX12_command_33 : decode cX12_command 33 = .ok (.aload_n 0, 1) := dk_42 (dk_at dksX12_command_1 11 rfl rfl)
theorem dX12_command_34 : decode cX12_command 34 = .ok (.getfield 15, 3) := dk_180 0 15 (dk_at dksX12_command_1 12 rfl rfl)
theorem dX12_command_37 : decode cX12_command 37 = .ok (.invokevirtual 29, 3) := dk_182 0 29 (dk_at dksX12_command_1 15 rfl rfl)
theorem dX12_command_40 : decode cX12_command 40 = .ok (.invokespecial 101, 3) := dk_183 0 101 (dk_at dksX12_command_1 18 rfl rfl)
theorem dX12_command_43 : decode cX12_command 43 = .ok (.astore_n 1, 1) := dk_76 (dk_at dksX12_command_1 21 rfl rfl)
theorem dX12_command_44 : decode cX12_command 44 = .ok (.aload_n 0, 1) := dk_42 (dk_at dksX12_command_1 22 rfl rfl)
theorem dX12_command_45 : decode cX12_command 45 = .ok (.dup, 1) := dk_89 (dk_at dksX12_command_1 23 rfl rfl)
theorem dX12_command_46 : decode cX12_command 46 = .ok (.getfield 15, 3) := dk_180 0 15 (dk_at dksX12_command_2 0 rfl rfl)
theorem dX12_command_49 : decode cX12_command 49 = .ok (.iconst 1, 1) := dk_4 (dk_at dksX12_command_2 3 rfl rfl)
theorem dX12_command_50 : decode cX12_command 50 = .ok (.iadd, 1) := dk_96 (dk_at dksX12_command_2 4 rfl rfl)
theorem dX12_command_51 : decode cX12_command 51 = .ok (.putfield 15, 3) := dk_181 0 15 (dk_at dksX12_command_2 5 rfl rfl)
theorem dX12_command_54 : decode cX12_command 54 = .ok (.aload_n 1, 1) := dk_43 (dk_at dksX12_command_2 8 rfl rfl)
theorem dX12_command_55 : decode cX12_command 55 = .ok (.aload_n 0, 1) := dk_42 (dk_at dksX12_command_2 9 rfl rfl)
theorem dX12_command_56 : decode cX12_command 56 = .ok (.iconst 1, 1) := dk_4 (dk_at dksX12_command_2 10 rfl rfl)
theorem dX12_command_57 : decode cX12_command 57 = .ok (.invokevirtual 53, 3) := dk_182 0 53 (dk_at dksX12_command_2 11 rfl rfl)
theorem dX12_command_60 : decode cX12_command 60 = .ok (.putfield 104, 3) := dk_181 0 104 (dk_at dksX12_command_2 14 rfl rfl)
theorem dX12_command_63 : decode cX12_command 63 = .ok (.aload_n 1, 1) := dk_43 (dk_at dksX12_command_2 17 rfl rfl)
theorem dX12_command_64 : decode cX12_command 64 = .ok (.getfield 107, 3) := dk_180 0 107 (dk_at dksX12_command_2 18 rfl rfl)
theorem dX12_command_67 : decode cX12_command 67 = .ok (.lookupswitch 134 #[(97, 87), (100, 120), (102, 41), (119, 95)], 41) := by decide +kernel
theorem dX12_command_108 : decode cX12_command 108 = .ok (.aload_n 1, 1) := dk_43 (dk_at dksX12_command_4 0 rfl rfl)
theorem dX12_command_109 : decode cX12_command 109 = .ok (.aload_n 0, 1) := dk_42 (dk_at dksX12_command_4 1 rfl rfl)
theorem dX12_command_110 : decode cX12_command 110 = .ok (.bipush 46, 2) := dk_16 46 (dk_at dksX12_command_4 2 rfl rfl)
theorem dX12_command_112 : decode cX12_command 112 = .ok (.iconst 1, 1) := dk_4 (dk_at dksX12_command_4 4 rfl rfl)
theorem dX12_command_113 : decode cX12_command 113 = .ok (.invokevirtual 70, 3) := dk_182 0 70 (dk_at dksX12_command_4 5 rfl rfl)
theorem dX12_command_116 : decode cX12_command 116 = .ok (.putfield 74, 3) := dk_181 0 74 (dk_at dksX12_command_4 8 rfl rfl)
theorem dX12_command_119 : decode cX12_command 119 = .ok (.aload_n 0, 1) := dk_42 (dk_at dksX12_command_4 11 rfl rfl)
theorem dX12_command_120 : decode cX12_command 120 = .ok (.aload_n 0, 1) := dk_42 (dk_at dksX12_command_4 12 rfl rfl)
theorem dX12_command_121 : decode cX12_command 121 = .ok (.bipush 61, 2) := dk_16 61 (dk_at dksX12_command_4 13 rfl rfl)
theorem dX12_command_123 : decode cX12_command 123 = .ok (.invokevirtual 49, 3) := dk_182 0 49 (dk_at dksX12_command_4 15 rfl rfl)
theorem dX12_command_126 : decode cX12_command 126 = .ok (.invokevirtual 45, 3) := dk_182 0 45 (dk_at dksX12_command_4 18 rfl rfl)
theorem dX12_command_129 : decode cX12_command 129 = .ok (.aload_n 1, 1) := dk_43 (dk_at dksX12_command_4 21 rfl rfl)
theorem dX12_command_130 : decode cX12_command 130 = .ok (.aload_n 0, 1) := dk_42 (dk_at dksX12_command_4 22 rfl rfl)
theorem dX12_command_131 : decode cX12_command 131 = .ok (.bipush 45, 2) := dk_16 45 (dk_at dksX12_command_5 0 rfl rfl)
theorem dX12_command_133 : decode cX12_command 133 = .ok (.invokevirtual 49, 3) := dk_182 0 49 (dk_at dksX12_command_5 2 rfl rfl)
theorem dX12_command_136 : decode cX12_command 136 = .ok (.ifCond .eq 7, 3) := dk_153 0 7 (dk_at dksX12_command_5 5 rfl rfl)
theorem dX12_command_139 : decode cX12_command 139 = .ok (.iconst (-1), 1) := dk_2 (dk_at dksX12_command_5 8 rfl rfl)
theorem dX12_command_140 : decode cX12_command 140 = .ok (.goto 8, 3) := dk_167 0 8 (dk_at dksX12_command_5 9 rfl rfl)
theorem dX12_command_143 : decode cX12_command 143 = .ok (.aload_n 0, 1) := dk_42 (dk_at dksX12_command_5 12 rfl rfl)
theorem dX12_command_144 : decode cX12_command 144 = .ok (.iconst 1, 1) := dk_4 (dk_at dksX12_command_5 13 rfl rfl)
theorem dX12_command_145 : decode cX12_command 145 = .ok (.invokevirtual 53, 3) := dk_182 0 53 (dk_at dksX12_command_5 14 rfl rfl)
theorem dX12_command_148 : decode cX12_command 148 = .ok (.putfield 91, 3) := dk_181 0 91 (dk_at dksX12_command_5 17 rfl rfl)
theorem dX12_command_151 : decode cX12_command 151 = .ok (.goto 50, 3) := dk_167 0 50 (dk_at dksX12_command_5 20 rfl rfl)
theorem dX12_command_154 : decode cX12_command 154 = .ok (.aload_n 0, 1) := dk_42 (dk_at dksX12_command_5 23 rfl rfl)
theorem dX12_command_155 : decode cX12_command 155 = .ok (.aload_n 1, 1) := dk_43 (dk_at dksX12_command_6 0 rfl rfl)
theorem dX12_command_156 : decode cX12_command 156 = .ok (.invokevirtual 111, 3) := dk_182 0 111 (dk_at dksX12_command_6 1 rfl rfl)
theorem dX12_command_159 : decode cX12_command 159 = .ok (.goto 42, 3) := dk_167 0 42 (dk_at dksX12_command_6 4 rfl rfl)
theorem dX12_command_162 : decode cX12_command 162 = .ok (.aload_n 1, 1) := dk_43 (dk_at dksX12_command_6 7 rfl rfl)
theorem dX12_command_163 : decode cX12_command 163 = .ok (.aload_n 0, 1) := dk_42 (dk_at dksX12_command_6 8 rfl rfl)
theorem dX12_command_164 : decode cX12_command 164 = .ok (.bipush 46, 2) := dk_16 46 (dk_at dksX12_command_6 9 rfl rfl)
theorem dX12_command_166 : decode cX12_command 166 = .ok (.iconst 2, 1) := dk_5 (dk_at dksX12_command_6 11 rfl rfl)
theorem dX12_command_167 : decode cX12_command 167 = .ok (.invokevirtual 70, 3) := dk_182 0 70 (dk_at dksX12_command_6 12 rfl rfl)
theorem dX12_command_170 : decode cX12_command 170 = .ok (.putfield 74, 3) := dk_181 0 74 (dk_at dksX12_command_6 15 rfl rfl)
theorem dX12_command_173 : decode cX12_command 173 = .ok (.aload_n 1, 1) := dk_43 (dk_at dksX12_command_6 18 rfl rfl)
theorem dX12_command_174 : decode cX12_command 174 = .ok (.aload_n 0, 1) := dk_42 (dk_at dksX12_command_6 19 rfl rfl)
theorem dX12_command_175 : decode cX12_command 175 = .ok (.bipush 61, 2) := dk_16 61 (dk_at dksX12_command_6 20 rfl rfl)
theorem dX12_command_177 : decode cX12_command 177 = .ok (.iconst 1, 1) := dk_4 (dk_at dksX12_command_6 22 rfl rfl)
theorem dX12_command_178 : decode cX12_command 178 = .ok (.invokevirtual 70, 3) := dk_182 0 70 (dk_at dksX12_command_7 0 rfl rfl)
theorem dX12_command_181 : decode cX12_command 181 = .ok (.putfield 91, 3) := dk_181 0 91 (dk_at dksX12_command_7 3 rfl rfl)
theorem dX12_command_184 : decode cX12_command 184 = .ok (.goto 17, 3) := dk_167 0 17 (dk_at dksX12_command_7 6 rfl rfl)
theorem dX12_command_187 : decode cX12_command 187 = .ok (.aload_n 1, 1) := dk_43 (dk_at dksX12_command_7 9 rfl rfl)
theorem dX12_command_188 : decode cX12_command 188 = .ok (.aload_n 0, 1) := dk_42 (dk_at dksX12_command_7 10 rfl rfl)
theorem dX12_command_189 : decode cX12_command 189 = .ok (.bipush 46, 2) := dk_16 46 (dk_at dksX12_command_7 11 rfl rfl)
theorem dX12_command_191 : decode cX12_command 191 = .ok (.iconst 2, 1) := dk_5 (dk_at dksX12_command_7 13 rfl rfl)
theorem dX12_command_192 : decode cX12_command 192 = .ok (.invokevirtual 70, 3) := dk_182 0 70 (dk_at dksX12_command_7 14 rfl rfl)
theorem dX12_command_195 : decode cX12_command 195 = .ok (.putfield 74, 3) := dk_181 0 74 (dk_at dksX12_command_7 17 rfl rfl)
theorem dX12_command_198 : decode cX12_command 198 = .ok (.goto 3, 3) := dk_167 0 3 (dk_at dksX12_command_7 20 rfl rfl)
theorem dX12_command_201 : decode cX12_command 201 = .ok (.aload_n 1, 1) := dk_43 (dk_at dksX12_command_7 23 rfl rfl)
theorem dX12_command_202 : decode cX12_command 202 = .ok (.areturn, 1) := dk_176 (dk_at dksX12_command_8 0 rfl rfl)
abbrev cX12_here : ByteArray := prog_10_method_2_code
def yX12_here : MethodName := ⟨RX12, "here", "()I"⟩
def dkwX12_here_1 : List UInt8 := [42, 180, 0, 15, 182, 0, 29, 167, 0, 5, 16, 245, 172]
abbrev dktX12_here_1 : List UInt8 := dkwX12_here_1 ++ []
def dkwX12_here_0 : List UInt8 := [42, 180, 0, 15, 42, 180, 0, 3, 180, 0, 19, 182, 0, 23, 162, 0, 20, 42, 180, 0, 3, 180, 0, 19]
abbrev dktX12_here_0 : List UInt8 := dkwX12_here_0 ++ dktX12_here_1
theorem dksX12_here_0 : cX12_here.data.toList.drop 0 = dktX12_here_0 := by decide +kernel
theorem dksX12_here_1 : cX12_here.data.toList.drop 24 = dktX12_here_1 := dk_seg dksX12_here_0 24 rfl rfl
theorem dX12_here_0 : decode cX12_here 0 = .ok (.aload_n 0, 1) := dk_42 (dk_at dksX12_here_0 0 rfl rfl)
theorem dX12_here_1 : decode cX12_here 1 = .ok (.getfield 15, 3) := dk_180 0 15 (dk_at dksX12_here_0 1 rfl rfl)
theorem dX12_here_4 : decode cX12_here 4 = .ok (.aload_n 0, 1) := dk_42 (dk_at dksX12_here_0 4 rfl rfl)
theorem dX12_here_5 : decode cX12_here 5 = .ok (.getfield 3, 3) := dk_180 0 3 (dk_at dksX12_here_0 5 rfl rfl)
theorem dX12_here_8 : decode cX12_here 8 = .ok (.getfield 19, 3) := dk_180 0 19 (dk_at dksX12_here_0 8 rfl rfl)
theorem dX12_here_11 : decode cX12_here 11 = .ok (.invokevirtual 23, 3) := dk_182 0 23 (dk_at dksX12_here_0 11 rfl rfl)
theorem dX12_here_14 : decode cX12_here 14 = .ok (.if_icmp .ge 20, 3) := dk_162 0 20 (dk_at dksX12_here_0 14 rfl rfl)
theorem dX12_here_17 : decode cX12_here 17 = .ok (.aload_n 0, 1) := dk_42 (dk_at dksX12_here_0 17 rfl rfl)
theorem dX12_here_18 : decode cX12_here 18 = .ok (.getfield 3, 3) := dk_180 0 3 (dk_at dksX12_here_0 18 rfl rfl)
theorem dX12_here_21 : decode cX12_here 21 = .ok (.getfield 19, 3) := dk_180 0 19 (dk_at dksX12_here_0 21 rfl rfl)
theorem dX12_here_24 : decode cX12_here 24 = .ok (.aload_n 0, 1) := dk_42 (dk_at dksX12_here_1 0 rfl rfl)
theorem dX12_here_25 : decode cX12_here 25 = .ok (.getfield 15, 3) := dk_180 0 15 (dk_at dksX12_here_1 1 rfl rfl)
theorem dX12_here_28 : decode cX12_here 28 = .ok (.invokevirtual 29, 3) := dk_182 0 29 (dk_at dksX12_here_1 4 rfl rfl)
theorem dX12_here_31 : decode cX12_here 31 = .ok (.goto 5, 3) := dk_167 0 5 (dk_at dksX12_here_1 7 rfl rfl)
theorem dX12_here_34 : decode cX12_here 34 = .ok (.bipush (-11), 2) := dk_16 245 (dk_at dksX12_here_1 10 rfl rfl)
theorem dX12_here_36 : decode cX12_here 36 = .ok (.ireturn, 1) := dk_172 (dk_at dksX12_here_1 12 rfl rfl)
abbrev cX12_needs : ByteArray := prog_10_method_3_code
def yX12_needs : MethodName := ⟨RX12, "needs", "(Z)V"⟩
def dkwX12_needs_0 : List UInt8 := [27, 154, 0, 15, 187, 0, 33, 89, 42, 180, 0, 15, 183, 0, 35, 191, 177]
abbrev dktX12_needs_0 : List UInt8 := dkwX12_needs_0 ++ []
theorem dksX12_needs_0 : cX12_needs.data.toList.drop 0 = dktX12_needs_0 := by decide +kernel
theorem dX12_needs_0 : decode cX12_needs 0 = .ok (.iload_n 1, 1) := dk_27 (dk_at dksX12_needs_0 0 rfl rfl)
theorem dX12_needs_1 : decode cX12_needs 1 = .ok (.ifCond .ne 15, 3) := dk_154 0 15 (dk_at dksX12_needs_0 1 rfl rfl)
theorem dX12_needs_4 : decode cX12_needs 4 = .ok (.new 33, 3) := dk_187 0 33 (dk_at dksX12_needs_0 4 rfl rfl)
theorem dX12_needs_7 : decode cX12_needs 7 = .ok (.dup, 1) := dk_89 (dk_at dksX12_needs_0 7 rfl rfl)
theorem dX12_needs_8 : decode cX12_needs 8 = .ok (.aload_n 0, 1) := dk_42 (dk_at dksX12_needs_0 8 rfl rfl)
theorem dX12_needs_9 : decode cX12_needs 9 = .ok (.getfield 15, 3) := dk_180 0 15 (dk_at dksX12_needs_0 9 rfl rfl)
theorem dX12_needs_12 : decode cX12_needs 12 = .ok (.invokespecial 35, 3) := dk_183 0 35 (dk_at dksX12_needs_0 12 rfl rfl)
theorem dX12_needs_15 : decode cX12_needs 15 = .ok (.athrow, 1) := dk_191 (dk_at dksX12_needs_0 15 rfl rfl)
theorem dX12_needs_16 : decode cX12_needs 16 = .ok (.return_, 1) := dk_177 (dk_at dksX12_needs_0 16 rfl rfl)
abbrev cX12_number : ByteArray := prog_10_method_5_code
def yX12_number : MethodName := ⟨RX12, "number", "(I)I"⟩
def dkwX12_number_2 : List UInt8 := [16, 48, 100, 61, 42, 89, 180, 0, 15, 4, 96, 181, 0, 15, 132, 3, 1, 167, 255, 211, 28, 172]
abbrev dktX12_number_2 : List UInt8 := dkwX12_number_2 ++ []
def dkwX12_number_1 : List UInt8 := [42, 182, 0, 38, 16, 48, 16, 57, 184, 0, 41, 153, 0, 32, 16, 10, 28, 104, 42, 182, 0, 38, 96]
abbrev dktX12_number_1 : List UInt8 := dkwX12_number_1 ++ dktX12_number_2
def dkwX12_number_0 : List UInt8 := [42, 42, 182, 0, 38, 16, 48, 16, 57, 184, 0, 41, 182, 0, 45, 3, 61, 3, 62, 29, 27, 162, 0, 46]
abbrev dktX12_number_0 : List UInt8 := dkwX12_number_0 ++ dktX12_number_1
theorem dksX12_number_0 : cX12_number.data.toList.drop 0 = dktX12_number_0 := by decide +kernel
theorem dksX12_number_1 : cX12_number.data.toList.drop 24 = dktX12_number_1 := dk_seg dksX12_number_0 24 rfl rfl
theorem dksX12_number_2 : cX12_number.data.toList.drop 47 = dktX12_number_2 := dk_seg dksX12_number_1 23 rfl rfl
theorem dX12_number_0 : decode cX12_number 0 = .ok (.aload_n 0, 1) := dk_42 (dk_at dksX12_number_0 0 rfl rfl)
theorem dX12_number_1 : decode cX12_number 1 = .ok (.aload_n 0, 1) := dk_42 (dk_at dksX12_number_0 1 rfl rfl)
theorem dX12_number_2 : decode cX12_number 2 = .ok (.invokevirtual 38, 3) := dk_182 0 38 (dk_at dksX12_number_0 2 rfl rfl)
theorem dX12_number_5 : decode cX12_number 5 = .ok (.bipush 48, 2) := dk_16 48 (dk_at dksX12_number_0 5 rfl rfl)
theorem dX12_number_7 : decode cX12_number 7 = .ok (.bipush 57, 2) := dk_16 57 (dk_at dksX12_number_0 7 rfl rfl)
theorem dX12_number_9 : decode cX12_number 9 = .ok (.invokestatic 41, 3) := dk_184 0 41 (dk_at dksX12_number_0 9 rfl rfl)
theorem dX12_number_12 : decode cX12_number 12 = .ok (.invokevirtual 45, 3) := dk_182 0 45 (dk_at dksX12_number_0 12 rfl rfl)
theorem dX12_number_15 : decode cX12_number 15 = .ok (.iconst 0, 1) := dk_3 (dk_at dksX12_number_0 15 rfl rfl)
theorem dX12_number_16 : decode cX12_number 16 = .ok (.istore_n 2, 1) := dk_61 (dk_at dksX12_number_0 16 rfl rfl)
theorem dX12_number_17 : decode cX12_number 17 = .ok (.iconst 0, 1) := dk_3 (dk_at dksX12_number_0 17 rfl rfl)
theorem dX12_number_18 : decode cX12_number 18 = .ok (.istore_n 3, 1) := dk_62 (dk_at dksX12_number_0 18 rfl rfl)
theorem dX12_number_19 : decode cX12_number 19 = .ok (.iload_n 3, 1) := dk_29 (dk_at dksX12_number_0 19 rfl rfl)
theorem dX12_number_20 : decode cX12_number 20 = .ok (.iload_n 1, 1) := dk_27 (dk_at dksX12_number_0 20 rfl rfl)
theorem dX12_number_21 : decode cX12_number 21 = .ok (.if_icmp .ge 46, 3) := dk_162 0 46 (dk_at dksX12_number_0 21 rfl rfl)
theorem dX12_number_24 : decode cX12_number 24 = .ok (.aload_n 0, 1) := dk_42 (dk_at dksX12_number_1 0 rfl rfl)
theorem dX12_number_25 : decode cX12_number 25 = .ok (.invokevirtual 38, 3) := dk_182 0 38 (dk_at dksX12_number_1 1 rfl rfl)
theorem dX12_number_28 : decode cX12_number 28 = .ok (.bipush 48, 2) := dk_16 48 (dk_at dksX12_number_1 4 rfl rfl)
theorem dX12_number_30 : decode cX12_number 30 = .ok (.bipush 57, 2) := dk_16 57 (dk_at dksX12_number_1 6 rfl rfl)
theorem dX12_number_32 : decode cX12_number 32 = .ok (.invokestatic 41, 3) := dk_184 0 41 (dk_at dksX12_number_1 8 rfl rfl)
theorem dX12_number_35 : decode cX12_number 35 = .ok (.ifCond .eq 32, 3) := dk_153 0 32 (dk_at dksX12_number_1 11 rfl rfl)
theorem dX12_number_38 : decode cX12_number 38 = .ok (.bipush 10, 2) := dk_16 10 (dk_at dksX12_number_1 14 rfl rfl)
theorem dX12_number_40 : decode cX12_number 40 = .ok (.iload_n 2, 1) := dk_28 (dk_at dksX12_number_1 16 rfl rfl)
theorem dX12_number_41 : decode cX12_number 41 = .ok (.imul, 1) := dk_104 (dk_at dksX12_number_1 17 rfl rfl)
theorem dX12_number_42 : decode cX12_number 42 = .ok (.aload_n 0, 1) := dk_42 (dk_at dksX12_number_1 18 rfl rfl)
theorem dX12_number_43 : decode cX12_number 43 = .ok (.invokevirtual 38, 3) := dk_182 0 38 (dk_at dksX12_number_1 19 rfl rfl)
theorem dX12_number_46 : decode cX12_number 46 = .ok (.iadd, 1) := dk_96 (dk_at dksX12_number_1 22 rfl rfl)
theorem dX12_number_47 : decode cX12_number 47 = .ok (.bipush 48, 2) := dk_16 48 (dk_at dksX12_number_2 0 rfl rfl)
theorem dX12_number_49 : decode cX12_number 49 = .ok (.isub, 1) := dk_100 (dk_at dksX12_number_2 2 rfl rfl)
theorem dX12_number_50 : decode cX12_number 50 = .ok (.istore_n 2, 1) := dk_61 (dk_at dksX12_number_2 3 rfl rfl)
theorem dX12_number_51 : decode cX12_number 51 = .ok (.aload_n 0, 1) := dk_42 (dk_at dksX12_number_2 4 rfl rfl)
theorem dX12_number_52 : decode cX12_number 52 = .ok (.dup, 1) := dk_89 (dk_at dksX12_number_2 5 rfl rfl)
theorem dX12_number_53 : decode cX12_number 53 = .ok (.getfield 15, 3) := dk_180 0 15 (dk_at dksX12_number_2 6 rfl rfl)
theorem dX12_number_56 : decode cX12_number 56 = .ok (.iconst 1, 1) := dk_4 (dk_at dksX12_number_2 9 rfl rfl)
theorem dX12_number_57 : decode cX12_number 57 = .ok (.iadd, 1) := dk_96 (dk_at dksX12_number_2 10 rfl rfl)
theorem dX12_number_58 : decode cX12_number 58 = .ok (.putfield 15, 3) := dk_181 0 15 (dk_at dksX12_number_2 11 rfl rfl)
theorem dX12_number_61 : decode cX12_number 61 = .ok (.iinc 3 1, 3) := dk_132 3 1 (dk_at dksX12_number_2 14 rfl rfl)
theorem dX12_number_64 : decode cX12_number 64 = .ok (.goto (-45), 3) := dk_167 255 211 (dk_at dksX12_number_2 17 rfl rfl)
theorem dX12_number_67 : decode cX12_number 67 = .ok (.iload_n 2, 1) := dk_28 (dk_at dksX12_number_2 20 rfl rfl)
theorem dX12_number_68 : decode cX12_number 68 = .ok (.ireturn, 1) := dk_172 (dk_at dksX12_number_2 21 rfl rfl)
abbrev cX12_behind : ByteArray := prog_10_method_6_code
def yX12_behind : MethodName := ⟨RX12, "behind", "(II)I"⟩
def dkwX12_behind_0 : List UInt8 := [42, 42, 27, 182, 0, 49, 182, 0, 45, 42, 28, 182, 0, 53, 172]
abbrev dktX12_behind_0 : List UInt8 := dkwX12_behind_0 ++ []
theorem dksX12_behind_0 : cX12_behind.data.toList.drop 0 = dktX12_behind_0 := by decide +kernel
theorem dX12_behind_0 : decode cX12_behind 0 = .ok (.aload_n 0, 1) := dk_42 (dk_at dksX12_behind_0 0 rfl rfl)
theorem dX12_behind_1 : decode cX12_behind 1 = .ok (.aload_n 0, 1) := dk_42 (dk_at dksX12_behind_0 1 rfl rfl)
theorem dX12_behind_2 : decode cX12_behind 2 = .ok (.iload_n 1, 1) := dk_27 (dk_at dksX12_behind_0 2 rfl rfl)
theorem dX12_behind_3 : decode cX12_behind 3 = .ok (.invokevirtual 49, 3) := dk_182 0 49 (dk_at dksX12_behind_0 3 rfl rfl)
theorem dX12_behind_6 : decode cX12_behind 6 = .ok (.invokevirtual 45, 3) := dk_182 0 45 (dk_at dksX12_behind_0 6 rfl rfl)
theorem dX12_behind_9 : decode cX12_behind 9 = .ok (.aload_n 0, 1) := dk_42 (dk_at dksX12_behind_0 9 rfl rfl)
theorem dX12_behind_10 : decode cX12_behind 10 = .ok (.iload_n 2, 1) := dk_28 (dk_at dksX12_behind_0 10 rfl rfl)
theorem dX12_behind_11 : decode cX12_behind 11 = .ok (.invokevirtual 53, 3) := dk_182 0 53 (dk_at dksX12_behind_0 11 rfl rfl)
theorem dX12_behind_14 : decode cX12_behind 14 = .ok (.ireturn, 1) := dk_172 (dk_at dksX12_behind_0 14 rfl rfl)
abbrev cX12_takes : ByteArray := prog_10_method_4_code
def yX12_takes : MethodName := ⟨RX12, "takes", "(I)Z"⟩
def dkwX12_takes_1 : List UInt8 := [167, 0, 4, 3, 96, 181, 0, 15, 28, 172]
abbrev dktX12_takes_1 : List UInt8 := dkwX12_takes_1 ++ []
def dkwX12_takes_0 : List UInt8 := [42, 182, 0, 38, 27, 160, 0, 7, 4, 167, 0, 4, 3, 61, 42, 89, 180, 0, 15, 28, 153, 0, 7, 4]
abbrev dktX12_takes_0 : List UInt8 := dkwX12_takes_0 ++ dktX12_takes_1
theorem dksX12_takes_0 : cX12_takes.data.toList.drop 0 = dktX12_takes_0 := by decide +kernel
theorem dksX12_takes_1 : cX12_takes.data.toList.drop 24 = dktX12_takes_1 := dk_seg dksX12_takes_0 24 rfl rfl
theorem dX12_takes_0 : decode cX12_takes 0 = .ok (.aload_n 0, 1) := dk_42 (dk_at dksX12_takes_0 0 rfl rfl)
theorem dX12_takes_1 : decode cX12_takes 1 = .ok (.invokevirtual 38, 3) := dk_182 0 38 (dk_at dksX12_takes_0 1 rfl rfl)
theorem dX12_takes_4 : decode cX12_takes 4 = .ok (.iload_n 1, 1) := dk_27 (dk_at dksX12_takes_0 4 rfl rfl)
theorem dX12_takes_5 : decode cX12_takes 5 = .ok (.if_icmp .ne 7, 3) := dk_160 0 7 (dk_at dksX12_takes_0 5 rfl rfl)
theorem dX12_takes_8 : decode cX12_takes 8 = .ok (.iconst 1, 1) := dk_4 (dk_at dksX12_takes_0 8 rfl rfl)
theorem dX12_takes_9 : decode cX12_takes 9 = .ok (.goto 4, 3) := dk_167 0 4 (dk_at dksX12_takes_0 9 rfl rfl)
theorem dX12_takes_12 : decode cX12_takes 12 = .ok (.iconst 0, 1) := dk_3 (dk_at dksX12_takes_0 12 rfl rfl)
theorem dX12_takes_13 : decode cX12_takes 13 = .ok (.istore_n 2, 1) := dk_61 (dk_at dksX12_takes_0 13 rfl rfl)
theorem dX12_takes_14 : decode cX12_takes 14 = .ok (.aload_n 0, 1) := dk_42 (dk_at dksX12_takes_0 14 rfl rfl)
theorem dX12_takes_15 : decode cX12_takes 15 = .ok (.dup, 1) := dk_89 (dk_at dksX12_takes_0 15 rfl rfl)
theorem dX12_takes_16 : decode cX12_takes 16 = .ok (.getfield 15, 3) := dk_180 0 15 (dk_at dksX12_takes_0 16 rfl rfl)
theorem dX12_takes_19 : decode cX12_takes 19 = .ok (.iload_n 2, 1) := dk_28 (dk_at dksX12_takes_0 19 rfl rfl)
theorem dX12_takes_20 : decode cX12_takes 20 = .ok (.ifCond .eq 7, 3) := dk_153 0 7 (dk_at dksX12_takes_0 20 rfl rfl)
theorem dX12_takes_23 : decode cX12_takes 23 = .ok (.iconst 1, 1) := dk_4 (dk_at dksX12_takes_0 23 rfl rfl)
theorem dX12_takes_24 : decode cX12_takes 24 = .ok (.goto 4, 3) := dk_167 0 4 (dk_at dksX12_takes_1 0 rfl rfl)
theorem dX12_takes_27 : decode cX12_takes 27 = .ok (.iconst 0, 1) := dk_3 (dk_at dksX12_takes_1 3 rfl rfl)
theorem dX12_takes_28 : decode cX12_takes 28 = .ok (.iadd, 1) := dk_96 (dk_at dksX12_takes_1 4 rfl rfl)
theorem dX12_takes_29 : decode cX12_takes 29 = .ok (.putfield 15, 3) := dk_181 0 15 (dk_at dksX12_takes_1 5 rfl rfl)
theorem dX12_takes_32 : decode cX12_takes 32 = .ok (.iload_n 2, 1) := dk_28 (dk_at dksX12_takes_1 8 rfl rfl)
theorem dX12_takes_33 : decode cX12_takes 33 = .ok (.ireturn, 1) := dk_172 (dk_at dksX12_takes_1 9 rfl rfl)
abbrev cX12_arc : ByteArray := prog_10_method_8_code
def yX12_arc : MethodName := ⟨RX12, "arc", "(LChantRules$Command;)V"⟩
def dkwX12_arc_2 : List UInt8 := [182, 0, 45, 43, 42, 182, 0, 82, 181, 0, 88, 43, 42, 16, 61, 4, 182, 0, 70, 181, 0, 91, 177]
abbrev dktX12_arc_2 : List UInt8 := dkwX12_arc_2 ++ []
def dkwX12_arc_1 : List UInt8 := [16, 32, 182, 0, 49, 182, 0, 45, 43, 42, 182, 0, 82, 181, 0, 85, 42, 42, 16, 47, 182, 0, 49]
abbrev dktX12_arc_1 : List UInt8 := dkwX12_arc_1 ++ dktX12_arc_2
def dkwX12_arc_0 : List UInt8 := [43, 42, 16, 58, 4, 182, 0, 70, 181, 0, 74, 43, 42, 16, 62, 4, 182, 0, 70, 181, 0, 79, 42, 42]
abbrev dktX12_arc_0 : List UInt8 := dkwX12_arc_0 ++ dktX12_arc_1
theorem dksX12_arc_0 : cX12_arc.data.toList.drop 0 = dktX12_arc_0 := by decide +kernel
theorem dksX12_arc_1 : cX12_arc.data.toList.drop 24 = dktX12_arc_1 := dk_seg dksX12_arc_0 24 rfl rfl
theorem dksX12_arc_2 : cX12_arc.data.toList.drop 47 = dktX12_arc_2 := dk_seg dksX12_arc_1 23 rfl rfl
theorem dX12_arc_0 : decode cX12_arc 0 = .ok (.aload_n 1, 1) := dk_43 (dk_at dksX12_arc_0 0 rfl rfl)
theorem dX12_arc_1 : decode cX12_arc 1 = .ok (.aload_n 0, 1) := dk_42 (dk_at dksX12_arc_0 1 rfl rfl)
theorem dX12_arc_2 : decode cX12_arc 2 = .ok (.bipush 58, 2) := dk_16 58 (dk_at dksX12_arc_0 2 rfl rfl)
theorem dX12_arc_4 : decode cX12_arc 4 = .ok (.iconst 1, 1) := dk_4 (dk_at dksX12_arc_0 4 rfl rfl)
theorem dX12_arc_5 : decode cX12_arc 5 = .ok (.invokevirtual 70, 3) := dk_182 0 70 (dk_at dksX12_arc_0 5 rfl rfl)
theorem dX12_arc_8 : decode cX12_arc 8 = .ok (.putfield 74, 3) := dk_181 0 74 (dk_at dksX12_arc_0 8 rfl rfl)
theorem dX12_arc_11 : decode cX12_arc 11 = .ok (.aload_n 1, 1) := dk_43 (dk_at dksX12_arc_0 11 rfl rfl)
theorem dX12_arc_12 : decode cX12_arc 12 = .ok (.aload_n 0, 1) := dk_42 (dk_at dksX12_arc_0 12 rfl rfl)
theorem dX12_arc_13 : decode cX12_arc 13 = .ok (.bipush 62, 2) := dk_16 62 (dk_at dksX12_arc_0 13 rfl rfl)
theorem dX12_arc_15 : decode cX12_arc 15 = .ok (.iconst 1, 1) := dk_4 (dk_at dksX12_arc_0 15 rfl rfl)
theorem dX12_arc_16 : decode cX12_arc 16 = .ok (.invokevirtual 70, 3) := dk_182 0 70 (dk_at dksX12_arc_0 16 rfl rfl)
theorem dX12_arc_19 : decode cX12_arc 19 = .ok (.putfield 79, 3) := dk_181 0 79 (dk_at dksX12_arc_0 19 rfl rfl)
theorem dX12_arc_22 : decode cX12_arc 22 = .ok (.aload_n 0, 1) := dk_42 (dk_at dksX12_arc_0 22 rfl rfl)
theorem dX12_arc_23 : decode cX12_arc 23 = .ok (.aload_n 0, 1) := dk_42 (dk_at dksX12_arc_0 23 rfl rfl)
theorem dX12_arc_24 : decode cX12_arc 24 = .ok (.bipush 32, 2) := dk_16 32 (dk_at dksX12_arc_1 0 rfl rfl)
theorem dX12_arc_26 : decode cX12_arc 26 = .ok (.invokevirtual 49, 3) := dk_182 0 49 (dk_at dksX12_arc_1 2 rfl rfl)
theorem dX12_arc_29 : decode cX12_arc 29 = .ok (.invokevirtual 45, 3) := dk_182 0 45 (dk_at dksX12_arc_1 5 rfl rfl)
theorem dX12_arc_32 : decode cX12_arc 32 = .ok (.aload_n 1, 1) := dk_43 (dk_at dksX12_arc_1 8 rfl rfl)
theorem dX12_arc_33 : decode cX12_arc 33 = .ok (.aload_n 0, 1) := dk_42 (dk_at dksX12_arc_1 9 rfl rfl)
theorem dX12_arc_34 : decode cX12_arc 34 = .ok (.invokevirtual 82, 3) := dk_182 0 82 (dk_at dksX12_arc_1 10 rfl rfl)
theorem dX12_arc_37 : decode cX12_arc 37 = .ok (.putfield 85, 3) := dk_181 0 85 (dk_at dksX12_arc_1 13 rfl rfl)
theorem dX12_arc_40 : decode cX12_arc 40 = .ok (.aload_n 0, 1) := dk_42 (dk_at dksX12_arc_1 16 rfl rfl)
theorem dX12_arc_41 : decode cX12_arc 41 = .ok (.aload_n 0, 1) := dk_42 (dk_at dksX12_arc_1 17 rfl rfl)
theorem dX12_arc_42 : decode cX12_arc 42 = .ok (.bipush 47, 2) := dk_16 47 (dk_at dksX12_arc_1 18 rfl rfl)
theorem dX12_arc_44 : decode cX12_arc 44 = .ok (.invokevirtual 49, 3) := dk_182 0 49 (dk_at dksX12_arc_1 20 rfl rfl)
theorem dX12_arc_47 : decode cX12_arc 47 = .ok (.invokevirtual 45, 3) := dk_182 0 45 (dk_at dksX12_arc_2 0 rfl rfl)
theorem dX12_arc_50 : decode cX12_arc 50 = .ok (.aload_n 1, 1) := dk_43 (dk_at dksX12_arc_2 3 rfl rfl)
theorem dX12_arc_51 : decode cX12_arc 51 = .ok (.aload_n 0, 1) := dk_42 (dk_at dksX12_arc_2 4 rfl rfl)
theorem dX12_arc_52 : decode cX12_arc 52 = .ok (.invokevirtual 82, 3) := dk_182 0 82 (dk_at dksX12_arc_2 5 rfl rfl)
theorem dX12_arc_55 : decode cX12_arc 55 = .ok (.putfield 88, 3) := dk_181 0 88 (dk_at dksX12_arc_2 8 rfl rfl)
theorem dX12_arc_58 : decode cX12_arc 58 = .ok (.aload_n 1, 1) := dk_43 (dk_at dksX12_arc_2 11 rfl rfl)
theorem dX12_arc_59 : decode cX12_arc 59 = .ok (.aload_n 0, 1) := dk_42 (dk_at dksX12_arc_2 12 rfl rfl)
theorem dX12_arc_60 : decode cX12_arc 60 = .ok (.bipush 61, 2) := dk_16 61 (dk_at dksX12_arc_2 13 rfl rfl)
theorem dX12_arc_62 : decode cX12_arc 62 = .ok (.iconst 1, 1) := dk_4 (dk_at dksX12_arc_2 15 rfl rfl)
theorem dX12_arc_63 : decode cX12_arc 63 = .ok (.invokevirtual 70, 3) := dk_182 0 70 (dk_at dksX12_arc_2 16 rfl rfl)
theorem dX12_arc_66 : decode cX12_arc 66 = .ok (.putfield 91, 3) := dk_181 0 91 (dk_at dksX12_arc_2 19 rfl rfl)
theorem dX12_arc_69 : decode cX12_arc 69 = .ok (.return_, 1) := dk_177 (dk_at dksX12_arc_2 22 rfl rfl)
abbrev cX12_sounds : ByteArray := prog_10_method_7_code
def yX12_sounds : MethodName := ⟨RX12, "sounds", "()I"⟩
def dkwX12_sounds_2 : List UInt8 := [89, 42, 180, 0, 15, 183, 0, 35, 191]
abbrev dktX12_sounds_2 : List UInt8 := dkwX12_sounds_2 ++ []
def dkwX12_sounds_1 : List UInt8 := [182, 0, 63, 182, 0, 49, 153, 0, 9, 25, 4, 182, 0, 67, 172, 132, 3, 1, 167, 255, 225, 187, 0, 33]
abbrev dktX12_sounds_1 : List UInt8 := dkwX12_sounds_1 ++ dktX12_sounds_2
def dkwX12_sounds_0 : List UInt8 := [184, 0, 57, 76, 43, 190, 61, 3, 62, 29, 28, 162, 0, 32, 43, 29, 50, 58, 4, 42, 25, 4]
abbrev dktX12_sounds_0 : List UInt8 := dkwX12_sounds_0 ++ dktX12_sounds_1
theorem dksX12_sounds_0 : cX12_sounds.data.toList.drop 0 = dktX12_sounds_0 := by decide +kernel
theorem dksX12_sounds_1 : cX12_sounds.data.toList.drop 22 = dktX12_sounds_1 := dk_seg dksX12_sounds_0 22 rfl rfl
theorem dksX12_sounds_2 : cX12_sounds.data.toList.drop 46 = dktX12_sounds_2 := dk_seg dksX12_sounds_1 24 rfl rfl
theorem dX12_sounds_0 : decode cX12_sounds 0 = .ok (.invokestatic 57, 3) := dk_184 0 57 (dk_at dksX12_sounds_0 0 rfl rfl)
theorem dX12_sounds_3 : decode cX12_sounds 3 = .ok (.astore_n 1, 1) := dk_76 (dk_at dksX12_sounds_0 3 rfl rfl)
theorem dX12_sounds_4 : decode cX12_sounds 4 = .ok (.aload_n 1, 1) := dk_43 (dk_at dksX12_sounds_0 4 rfl rfl)
theorem dX12_sounds_5 : decode cX12_sounds 5 = .ok (.arraylength, 1) := dk_190 (dk_at dksX12_sounds_0 5 rfl rfl)
theorem dX12_sounds_6 : decode cX12_sounds 6 = .ok (.istore_n 2, 1) := dk_61 (dk_at dksX12_sounds_0 6 rfl rfl)
theorem dX12_sounds_7 : decode cX12_sounds 7 = .ok (.iconst 0, 1) := dk_3 (dk_at dksX12_sounds_0 7 rfl rfl)
theorem dX12_sounds_8 : decode cX12_sounds 8 = .ok (.istore_n 3, 1) := dk_62 (dk_at dksX12_sounds_0 8 rfl rfl)
theorem dX12_sounds_9 : decode cX12_sounds 9 = .ok (.iload_n 3, 1) := dk_29 (dk_at dksX12_sounds_0 9 rfl rfl)
theorem dX12_sounds_10 : decode cX12_sounds 10 = .ok (.iload_n 2, 1) := dk_28 (dk_at dksX12_sounds_0 10 rfl rfl)
theorem dX12_sounds_11 : decode cX12_sounds 11 = .ok (.if_icmp .ge 32, 3) := dk_162 0 32 (dk_at dksX12_sounds_0 11 rfl rfl)
theorem dX12_sounds_14 : decode cX12_sounds 14 = .ok (.aload_n 1, 1) := dk_43 (dk_at dksX12_sounds_0 14 rfl rfl)
theorem dX12_sounds_15 : decode cX12_sounds 15 = .ok (.iload_n 3, 1) := dk_29 (dk_at dksX12_sounds_0 15 rfl rfl)
theorem dX12_sounds_16 : decode cX12_sounds 16 = .ok (.aaload, 1) := dk_50 (dk_at dksX12_sounds_0 16 rfl rfl)
theorem dX12_sounds_17 : decode cX12_sounds 17 = .ok (.astore 4, 2) := dk_58 4 (dk_at dksX12_sounds_0 17 rfl rfl)
theorem dX12_sounds_19 : decode cX12_sounds 19 = .ok (.aload_n 0, 1) := dk_42 (dk_at dksX12_sounds_0 19 rfl rfl)
theorem dX12_sounds_20 : decode cX12_sounds 20 = .ok (.aload 4, 2) := dk_25 4 (dk_at dksX12_sounds_0 20 rfl rfl)
theorem dX12_sounds_22 : decode cX12_sounds 22 = .ok (.invokevirtual 63, 3) := dk_182 0 63 (dk_at dksX12_sounds_1 0 rfl rfl)
theorem dX12_sounds_25 : decode cX12_sounds 25 = .ok (.invokevirtual 49, 3) := dk_182 0 49 (dk_at dksX12_sounds_1 3 rfl rfl)
theorem dX12_sounds_28 : decode cX12_sounds 28 = .ok (.ifCond .eq 9, 3) := dk_153 0 9 (dk_at dksX12_sounds_1 6 rfl rfl)
theorem dX12_sounds_31 : decode cX12_sounds 31 = .ok (.aload 4, 2) := dk_25 4 (dk_at dksX12_sounds_1 9 rfl rfl)
theorem dX12_sounds_33 : decode cX12_sounds 33 = .ok (.invokevirtual 67, 3) := dk_182 0 67 (dk_at dksX12_sounds_1 11 rfl rfl)
theorem dX12_sounds_36 : decode cX12_sounds 36 = .ok (.ireturn, 1) := dk_172 (dk_at dksX12_sounds_1 14 rfl rfl)
theorem dX12_sounds_37 : decode cX12_sounds 37 = .ok (.iinc 3 1, 3) := dk_132 3 1 (dk_at dksX12_sounds_1 15 rfl rfl)
theorem dX12_sounds_40 : decode cX12_sounds 40 = .ok (.goto (-31), 3) := dk_167 255 225 (dk_at dksX12_sounds_1 18 rfl rfl)
theorem dX12_sounds_43 : decode cX12_sounds 43 = .ok (.new 33, 3) := dk_187 0 33 (dk_at dksX12_sounds_1 21 rfl rfl)
theorem dX12_sounds_46 : decode cX12_sounds 46 = .ok (.dup, 1) := dk_89 (dk_at dksX12_sounds_2 0 rfl rfl)
theorem dX12_sounds_47 : decode cX12_sounds 47 = .ok (.aload_n 0, 1) := dk_42 (dk_at dksX12_sounds_2 1 rfl rfl)
theorem dX12_sounds_48 : decode cX12_sounds 48 = .ok (.getfield 15, 3) := dk_180 0 15 (dk_at dksX12_sounds_2 2 rfl rfl)
theorem dX12_sounds_51 : decode cX12_sounds 51 = .ok (.invokespecial 35, 3) := dk_183 0 35 (dk_at dksX12_sounds_2 5 rfl rfl)
theorem dX12_sounds_54 : decode cX12_sounds 54 = .ok (.athrow, 1) := dk_191 (dk_at dksX12_sounds_2 8 rfl rfl)
theorem q107 : (Jvm.Cond.initialized "ChantRules$Reader") ∈ lw_all := lw_g (lw_at lw_m1 32 rfl) rfl
theorem q308 : (Jvm.Cond.fieldLinkNest "ChantRules$Reader" (19 : Nat) "ChantRules" "text" "Ljava/lang/StringBuilder;" "ChantRules") ∈ lw_tbl := lw_at lw_m1 233 rfl
theorem q442 : (Jvm.Cond.selects "ChantRules$Reader" ({ cls := "java/lang/Object", name := "getClass", desc := "()Ljava/lang/Class;" } : Jvm.MethodName) ({ cls := "java/lang/Object", name := "getClass", desc := "()Ljava/lang/Class;" } : Jvm.MethodName)) ∈ lw_all := lw_g (lw_at lw_m2 127 rfl) rfl
theorem q1456 : (Jvm.Cond.instantiable "ChantRules$Reader" (2 : Nat)) ∈ lw_all := lw_g (lw_at lw_m6 181 rfl) rfl
theorem q1458 : (Jvm.Cond.instanceMethod ({ cls := "ChantRules$Reader", name := "<init>", desc := "(LChantRules;)V" } : Jvm.MethodName)) ∈ lw_all := lw_g (lw_at lw_m6 183 rfl) rfl
theorem q1459 : (Jvm.Cond.code ({ cls := "ChantRules$Reader", name := "<init>", desc := "(LChantRules;)V" } : Jvm.MethodName) prog_10_method_1_code (2 : Nat) (Option.none : Option Jvm.ClassFile.FieldType)) ∈ lw_all := lw_g (lw_at lw_m6 184 rfl) rfl
theorem q1460 : (Jvm.Cond.methodLink "ChantRules$Reader" (9 : Nat) ({ cls := "java/lang/Object", name := "<init>", desc := "()V" } : Jvm.MethodName)) ∈ lw_all := lw_g (lw_at lw_m6 185 rfl) rfl
theorem q1461 : (Jvm.Cond.fieldLink "ChantRules$Reader" (15 : Nat) "ChantRules$Reader" "at" "I") ∈ lw_all := lw_g (lw_at lw_m6 186 rfl) rfl
theorem q1462 : (Jvm.Cond.fieldLink "ChantRules$Reader" (3 : Nat) "ChantRules$Reader" "this$0" "LChantRules;") ∈ lw_all := lw_g (lw_at lw_m6 187 rfl) rfl
theorem q1463 : (Jvm.Cond.lays "ChantRules$Reader" "ChantRules$Reader" "at" "I") ∈ lw_all := lw_g (lw_at lw_m6 188 rfl) rfl
theorem q1464 : (Jvm.Cond.soleField "ChantRules$Reader" "at") ∈ lw_all := lw_g (lw_at lw_m6 189 rfl) rfl
theorem q1465 : (Jvm.Cond.laysFinal "ChantRules$Reader" "ChantRules$Reader" "this$0" "LChantRules;") ∈ lw_all := lw_g (lw_at lw_m6 190 rfl) rfl
theorem q1466 : (Jvm.Cond.soleField "ChantRules$Reader" "this$0") ∈ lw_all := lw_g (lw_at lw_m6 191 rfl) rfl
theorem q1467 : (Jvm.Cond.superclass "ChantRules$Reader" "java/lang/Object") ∈ lw_all := lw_g (lw_at lw_m6 192 rfl) rfl
theorem q1469 : (Jvm.Cond.instanceMethod ({ cls := "ChantRules$Reader", name := "commands", desc := "()Ljava/util/LinkedList;" } : Jvm.MethodName)) ∈ lw_all := lw_g (lw_at lw_m6 194 rfl) rfl
theorem q1470 : (Jvm.Cond.selects "ChantRules$Reader" ({ cls := "ChantRules$Reader", name := "commands", desc := "()Ljava/util/LinkedList;" } : Jvm.MethodName) ({ cls := "ChantRules$Reader", name := "commands", desc := "()Ljava/util/LinkedList;" } : Jvm.MethodName)) ∈ lw_all := lw_g (lw_at lw_m6 195 rfl) rfl
theorem q1471 : (Jvm.Cond.code ({ cls := "ChantRules$Reader", name := "commands", desc := "()Ljava/util/LinkedList;" } : Jvm.MethodName) prog_10_method_10_code (2 : Nat) (Option.some (Jvm.ClassFile.FieldType.object "java/util/LinkedList"))) ∈ lw_all := lw_g (lw_at lw_m6 196 rfl) rfl
theorem q1472 : (Jvm.Cond.classLink "ChantRules$Reader" (115 : Nat) "java/util/LinkedList") ∈ lw_all := lw_g (lw_at lw_m6 197 rfl) rfl
theorem q1474 : (Jvm.Cond.methodLink "ChantRules$Reader" (117 : Nat) ({ cls := "java/util/LinkedList", name := "<init>", desc := "()V" } : Jvm.MethodName)) ∈ lw_all := lw_g (lw_at lw_m6 199 rfl) rfl
theorem q1492 : (Jvm.Cond.methodLink "ChantRules$Reader" (118 : Nat) ({ cls := "ChantRules$Reader", name := "command", desc := "()LChantRules$Command;" } : Jvm.MethodName)) ∈ lw_all := lw_g (lw_at lw_m6 217 rfl) rfl
theorem q1493 : (Jvm.Cond.privateMethod ({ cls := "ChantRules$Reader", name := "command", desc := "()LChantRules$Command;" } : Jvm.MethodName)) ∈ lw_tbl := lw_at lw_m6 218 rfl
theorem q1494 : (Jvm.Cond.instanceMethod ({ cls := "ChantRules$Reader", name := "command", desc := "()LChantRules$Command;" } : Jvm.MethodName)) ∈ lw_all := lw_g (lw_at lw_m6 219 rfl) rfl
theorem q1495 : (Jvm.Cond.code ({ cls := "ChantRules$Reader", name := "command", desc := "()LChantRules$Command;" } : Jvm.MethodName) prog_10_method_9_code (2 : Nat) (Option.some (Jvm.ClassFile.FieldType.object "ChantRules$Command"))) ∈ lw_all := lw_g (lw_at lw_m6 220 rfl) rfl
theorem q1496 : (Jvm.Cond.stringRef "ChantRules$Reader" (94 : Nat) "sfawdt") ∈ lw_tbl := lw_at lw_m6 221 rfl
theorem q1497 : (Jvm.Cond.methodLink "ChantRules$Reader" (38 : Nat) ({ cls := "ChantRules$Reader", name := "here", desc := "()I" } : Jvm.MethodName)) ∈ lw_all := lw_g (lw_at lw_m6 222 rfl) rfl
theorem q1498 : (Jvm.Cond.privateMethod ({ cls := "ChantRules$Reader", name := "here", desc := "()I" } : Jvm.MethodName)) ∈ lw_tbl := lw_at lw_m6 223 rfl
theorem q1499 : (Jvm.Cond.instanceMethod ({ cls := "ChantRules$Reader", name := "here", desc := "()I" } : Jvm.MethodName)) ∈ lw_all := lw_g (lw_at lw_m6 224 rfl) rfl
theorem q1500 : (Jvm.Cond.code ({ cls := "ChantRules$Reader", name := "here", desc := "()I" } : Jvm.MethodName) prog_10_method_2_code (1 : Nat) (Option.some Jvm.ClassFile.FieldType.int)) ∈ lw_all := lw_g (lw_at lw_m6 225 rfl) rfl
theorem q1501 : (Jvm.Cond.methodLink "ChantRules$Reader" (23 : Nat) ({ cls := "java/lang/StringBuilder", name := "length", desc := "()I" } : Jvm.MethodName)) ∈ lw_all := lw_g (lw_at lw_m6 226 rfl) rfl
theorem q1502 : (Jvm.Cond.methodLink "ChantRules$Reader" (29 : Nat) ({ cls := "java/lang/StringBuilder", name := "charAt", desc := "(I)C" } : Jvm.MethodName)) ∈ lw_all := lw_g (lw_at lw_m6 227 rfl) rfl
theorem q1503 : (Jvm.Cond.methodLink "ChantRules$Reader" (96 : Nat) ({ cls := "java/lang/String", name := "indexOf", desc := "(I)I" } : Jvm.MethodName)) ∈ lw_all := lw_g (lw_at lw_m6 228 rfl) rfl
theorem q1558 : (Jvm.Cond.methodLink "ChantRules$Reader" (45 : Nat) ({ cls := "ChantRules$Reader", name := "needs", desc := "(Z)V" } : Jvm.MethodName)) ∈ lw_all := lw_g (lw_at lw_m7 43 rfl) rfl
theorem q1559 : (Jvm.Cond.privateMethod ({ cls := "ChantRules$Reader", name := "needs", desc := "(Z)V" } : Jvm.MethodName)) ∈ lw_tbl := lw_at lw_m7 44 rfl
theorem q1560 : (Jvm.Cond.instanceMethod ({ cls := "ChantRules$Reader", name := "needs", desc := "(Z)V" } : Jvm.MethodName)) ∈ lw_all := lw_g (lw_at lw_m7 45 rfl) rfl
theorem q1561 : (Jvm.Cond.code ({ cls := "ChantRules$Reader", name := "needs", desc := "(Z)V" } : Jvm.MethodName) prog_10_method_3_code (2 : Nat) (Option.none : Option Jvm.ClassFile.FieldType)) ∈ lw_all := lw_g (lw_at lw_m7 46 rfl) rfl
theorem q1562 : (Jvm.Cond.classLink "ChantRules$Reader" (33 : Nat) "ChantRules$Wrong") ∈ lw_all := lw_g (lw_at lw_m7 47 rfl) rfl
theorem q1571 : (Jvm.Cond.methodLink "ChantRules$Reader" (35 : Nat) ({ cls := "ChantRules$Wrong", name := "<init>", desc := "(I)V" } : Jvm.MethodName)) ∈ lw_all := lw_g (lw_at lw_m7 56 rfl) rfl
theorem q1581 : (Jvm.Cond.classLink "ChantRules$Reader" (75 : Nat) "ChantRules$Command") ∈ lw_all := lw_g (lw_at lw_m7 66 rfl) rfl
theorem q1583 : (Jvm.Cond.methodLink "ChantRules$Reader" (101 : Nat) ({ cls := "ChantRules$Command", name := "<init>", desc := "(C)V" } : Jvm.MethodName)) ∈ lw_all := lw_g (lw_at lw_m7 68 rfl) rfl
theorem q1588 : (Jvm.Cond.fieldLinkNest "ChantRules$Reader" (107 : Nat) "ChantRules$Command" "word" "C" "ChantRules") ∈ lw_tbl := lw_at lw_m7 73 rfl
theorem q1590 : (Jvm.Cond.fieldLinkNest "ChantRules$Reader" (104 : Nat) "ChantRules$Command" "rule" "I" "ChantRules") ∈ lw_tbl := lw_at lw_m7 75 rfl
theorem q1592 : (Jvm.Cond.fieldLinkNest "ChantRules$Reader" (74 : Nat) "ChantRules$Command" "one" "I" "ChantRules") ∈ lw_tbl := lw_at lw_m7 77 rfl
theorem q1594 : (Jvm.Cond.fieldLinkNest "ChantRules$Reader" (79 : Nat) "ChantRules$Command" "two" "I" "ChantRules") ∈ lw_tbl := lw_at lw_m7 79 rfl
theorem q1596 : (Jvm.Cond.fieldLinkNest "ChantRules$Reader" (85 : Nat) "ChantRules$Command" "hears" "I" "ChantRules") ∈ lw_tbl := lw_at lw_m7 81 rfl
theorem q1598 : (Jvm.Cond.fieldLinkNest "ChantRules$Reader" (88 : Nat) "ChantRules$Command" "sings" "I" "ChantRules") ∈ lw_tbl := lw_at lw_m7 83 rfl
theorem q1600 : (Jvm.Cond.fieldLinkNest "ChantRules$Reader" (91 : Nat) "ChantRules$Command" "weight" "I" "ChantRules") ∈ lw_tbl := lw_at lw_m7 85 rfl
theorem q1616 : (Jvm.Cond.methodLink "ChantRules$Reader" (53 : Nat) ({ cls := "ChantRules$Reader", name := "number", desc := "(I)I" } : Jvm.MethodName)) ∈ lw_all := lw_g (lw_at lw_m7 101 rfl) rfl
theorem q1617 : (Jvm.Cond.privateMethod ({ cls := "ChantRules$Reader", name := "number", desc := "(I)I" } : Jvm.MethodName)) ∈ lw_tbl := lw_at lw_m7 102 rfl
theorem q1618 : (Jvm.Cond.instanceMethod ({ cls := "ChantRules$Reader", name := "number", desc := "(I)I" } : Jvm.MethodName)) ∈ lw_all := lw_g (lw_at lw_m7 103 rfl) rfl
theorem q1619 : (Jvm.Cond.code ({ cls := "ChantRules$Reader", name := "number", desc := "(I)I" } : Jvm.MethodName) prog_10_method_5_code (4 : Nat) (Option.some Jvm.ClassFile.FieldType.int)) ∈ lw_all := lw_g (lw_at lw_m7 104 rfl) rfl
theorem q1620 : (Jvm.Cond.methodLinkNest "ChantRules$Reader" (41 : Nat) ({ cls := "ChantRules", name := "isIn", desc := "(III)Z" } : Jvm.MethodName) "ChantRules") ∈ lw_tbl := lw_at lw_m7 105 rfl
theorem q1621 : (Jvm.Cond.methodLink "ChantRules$Reader" (70 : Nat) ({ cls := "ChantRules$Reader", name := "behind", desc := "(II)I" } : Jvm.MethodName)) ∈ lw_all := lw_g (lw_at lw_m7 106 rfl) rfl
theorem q1622 : (Jvm.Cond.privateMethod ({ cls := "ChantRules$Reader", name := "behind", desc := "(II)I" } : Jvm.MethodName)) ∈ lw_tbl := lw_at lw_m7 107 rfl
theorem q1623 : (Jvm.Cond.instanceMethod ({ cls := "ChantRules$Reader", name := "behind", desc := "(II)I" } : Jvm.MethodName)) ∈ lw_all := lw_g (lw_at lw_m7 108 rfl) rfl
theorem q1624 : (Jvm.Cond.code ({ cls := "ChantRules$Reader", name := "behind", desc := "(II)I" } : Jvm.MethodName) prog_10_method_6_code (3 : Nat) (Option.some Jvm.ClassFile.FieldType.int)) ∈ lw_all := lw_g (lw_at lw_m7 109 rfl) rfl
theorem q1625 : (Jvm.Cond.methodLink "ChantRules$Reader" (49 : Nat) ({ cls := "ChantRules$Reader", name := "takes", desc := "(I)Z" } : Jvm.MethodName)) ∈ lw_all := lw_g (lw_at lw_m7 110 rfl) rfl
theorem q1626 : (Jvm.Cond.privateMethod ({ cls := "ChantRules$Reader", name := "takes", desc := "(I)Z" } : Jvm.MethodName)) ∈ lw_tbl := lw_at lw_m7 111 rfl
theorem q1627 : (Jvm.Cond.instanceMethod ({ cls := "ChantRules$Reader", name := "takes", desc := "(I)Z" } : Jvm.MethodName)) ∈ lw_all := lw_g (lw_at lw_m7 112 rfl) rfl
theorem q1628 : (Jvm.Cond.code ({ cls := "ChantRules$Reader", name := "takes", desc := "(I)Z" } : Jvm.MethodName) prog_10_method_4_code (3 : Nat) (Option.some Jvm.ClassFile.FieldType.boolean)) ∈ lw_all := lw_g (lw_at lw_m7 113 rfl) rfl
theorem q1629 : (Jvm.Cond.methodLink "ChantRules$Reader" (111 : Nat) ({ cls := "ChantRules$Reader", name := "arc", desc := "(LChantRules$Command;)V" } : Jvm.MethodName)) ∈ lw_all := lw_g (lw_at lw_m7 114 rfl) rfl
theorem q1630 : (Jvm.Cond.privateMethod ({ cls := "ChantRules$Reader", name := "arc", desc := "(LChantRules$Command;)V" } : Jvm.MethodName)) ∈ lw_tbl := lw_at lw_m7 115 rfl
theorem q1631 : (Jvm.Cond.instanceMethod ({ cls := "ChantRules$Reader", name := "arc", desc := "(LChantRules$Command;)V" } : Jvm.MethodName)) ∈ lw_all := lw_g (lw_at lw_m7 116 rfl) rfl
theorem q1632 : (Jvm.Cond.code ({ cls := "ChantRules$Reader", name := "arc", desc := "(LChantRules$Command;)V" } : Jvm.MethodName) prog_10_method_8_code (2 : Nat) (Option.none : Option Jvm.ClassFile.FieldType)) ∈ lw_all := lw_g (lw_at lw_m7 117 rfl) rfl
theorem q1633 : (Jvm.Cond.methodLink "ChantRules$Reader" (82 : Nat) ({ cls := "ChantRules$Reader", name := "sounds", desc := "()I" } : Jvm.MethodName)) ∈ lw_all := lw_g (lw_at lw_m7 118 rfl) rfl
theorem q1634 : (Jvm.Cond.privateMethod ({ cls := "ChantRules$Reader", name := "sounds", desc := "()I" } : Jvm.MethodName)) ∈ lw_tbl := lw_at lw_m7 119 rfl
theorem q1635 : (Jvm.Cond.instanceMethod ({ cls := "ChantRules$Reader", name := "sounds", desc := "()I" } : Jvm.MethodName)) ∈ lw_all := lw_g (lw_at lw_m7 120 rfl) rfl
theorem q1636 : (Jvm.Cond.code ({ cls := "ChantRules$Reader", name := "sounds", desc := "()I" } : Jvm.MethodName) prog_10_method_7_code (5 : Nat) (Option.some Jvm.ClassFile.FieldType.int)) ∈ lw_all := lw_g (lw_at lw_m7 121 rfl) rfl
theorem q1637 : (Jvm.Cond.methodLink "ChantRules$Reader" (57 : Nat) ({ cls := "ChantRules$Sound", name := "values", desc := "()[LChantRules$Sound;" } : Jvm.MethodName)) ∈ lw_all := lw_g (lw_at lw_m7 122 rfl) rfl
theorem q1638 : (Jvm.Cond.methodLink "ChantRules$Reader" (63 : Nat) ({ cls := "ChantRules$Sound", name := "sign", desc := "()C" } : Jvm.MethodName)) ∈ lw_all := lw_g (lw_at lw_m7 123 rfl) rfl
theorem q1639 : (Jvm.Cond.methodLink "ChantRules$Reader" (67 : Nat) ({ cls := "ChantRules$Sound", name := "ordinal", desc := "()I" } : Jvm.MethodName)) ∈ lw_all := lw_g (lw_at lw_m7 124 rfl) rfl
theorem q1640 : (Jvm.Cond.methodLink "ChantRules$Reader" (122 : Nat) ({ cls := "java/util/LinkedList", name := "addLast", desc := "(Ljava/lang/Object;)V" } : Jvm.MethodName)) ∈ lw_all := lw_g (lw_at lw_m7 125 rfl) rfl
theorem q2380 : (Jvm.Cond.castable "ChantRules$Reader" "java/lang/Object") ∈ lw_tbl := lw_at lw_m10 145 rfl
theorem in_X12 : ∀ w ∈ wsX120, w ∈ lw_all := lw_in wsX120 [1463, 1465] (by decide +kernel) (by decide +kernel)
/-! ChantRules$Wrong -/
set_option maxRecDepth 100000
def RX13 : String := "ChantRules$Wrong"
def TX13 : u_T := fun k => match k with
  | 0 => ("java/lang/Throwable", "cause", "Ljava/lang/Throwable;", false)
  | 1 => ("java/lang/Throwable", "stackTrace", "[Ljava/lang/StackTraceElement;", false)
  | 2 => ("java/lang/Throwable", "suppressedExceptions", "Ljava/util/List;", false)
  | 3 => ("java/lang/Throwable", "detailMessage", "Ljava/lang/String;", false)
  | 4 => ("java/lang/Throwable", "backtrace", "Ljava/lang/Object;", false)
  | 5 => ("java/lang/Throwable", "depth", "I", false)
  | _ => ("ChantRules$Wrong", "at", "I", true)
def tyX13 : Nat → FieldType := fun k => match k with
  | 0 => .object "java/lang/Throwable"
  | 1 => .array (.object "java/lang/StackTraceElement")
  | 2 => .object "java/util/List"
  | 3 => .object "java/lang/String"
  | 4 => .object "java/lang/Object"
  | 5 => .int
  | _ => .int
abbrev wsX130 : List Cond := u_ws RX13 TX13 7
theorem nmX13 : ∀ a, a < 7 → ∀ b, b < 7 → a ≠ b → (TX13 a).2.1 ≠ (TX13 b).2.1 := by decide +kernel
theorem tyX13_ok : ∀ k, k < 7 → parseFieldDescriptor (TX13 k).2.2.1 = some (tyX13 k) := by decide +kernel
abbrev cX13_init : ByteArray := prog_17_method_1_code
def yX13_init : MethodName := ⟨RX13, "<init>", "(I)V"⟩
def dkwX13_init_0 : List UInt8 := [42, 1, 1, 3, 3, 183, 0, 1, 42, 27, 181, 0, 7, 177]
abbrev dktX13_init_0 : List UInt8 := dkwX13_init_0 ++ []
theorem dksX13_init_0 : cX13_init.data.toList.drop 0 = dktX13_init_0 := by decide +kernel
theorem dX13_init_0 : decode cX13_init 0 = .ok (.aload_n 0, 1) := dk_42 (dk_at dksX13_init_0 0 rfl rfl)
theorem dX13_init_1 : decode cX13_init 1 = .ok (.aconst_null, 1) := dk_1 (dk_at dksX13_init_0 1 rfl rfl)
theorem dX13_init_2 : decode cX13_init 2 = .ok (.aconst_null, 1) := dk_1 (dk_at dksX13_init_0 2 rfl rfl)
theorem dX13_init_3 : decode cX13_init 3 = .ok (.iconst 0, 1) := dk_3 (dk_at dksX13_init_0 3 rfl rfl)
theorem dX13_init_4 : decode cX13_init 4 = .ok (.iconst 0, 1) := dk_3 (dk_at dksX13_init_0 4 rfl rfl)
theorem dX13_init_5 : decode cX13_init 5 = .ok (.invokespecial 1, 3) := dk_183 0 1 (dk_at dksX13_init_0 5 rfl rfl)
theorem dX13_init_8 : decode cX13_init 8 = .ok (.aload_n 0, 1) := dk_42 (dk_at dksX13_init_0 8 rfl rfl)
theorem dX13_init_9 : decode cX13_init 9 = .ok (.iload_n 1, 1) := dk_27 (dk_at dksX13_init_0 9 rfl rfl)
theorem dX13_init_10 : decode cX13_init 10 = .ok (.putfield 7, 3) := dk_181 0 7 (dk_at dksX13_init_0 10 rfl rfl)
theorem dX13_init_13 : decode cX13_init 13 = .ok (.return_, 1) := dk_177 (dk_at dksX13_init_0 13 rfl rfl)
theorem q111 : (Jvm.Cond.initialized "ChantRules$Wrong") ∈ lw_all := lw_g (lw_at lw_m1 36 rfl) rfl
theorem q448 : (Jvm.Cond.selects "ChantRules$Wrong" ({ cls := "java/lang/Object", name := "getClass", desc := "()Ljava/lang/Class;" } : Jvm.MethodName) ({ cls := "java/lang/Object", name := "getClass", desc := "()Ljava/lang/Class;" } : Jvm.MethodName)) ∈ lw_all := lw_g (lw_at lw_m2 133 rfl) rfl
theorem q507 : (Jvm.Cond.selects "ChantRules$Wrong" ({ cls := "java/lang/Throwable", name := "fillInStackTrace", desc := "()Ljava/lang/Throwable;" } : Jvm.MethodName) ({ cls := "java/lang/Throwable", name := "fillInStackTrace", desc := "()Ljava/lang/Throwable;" } : Jvm.MethodName)) ∈ lw_all := lw_g (lw_at lw_m2 192 rfl) rfl
theorem q1563 : (Jvm.Cond.instantiable "ChantRules$Wrong" (7 : Nat)) ∈ lw_all := lw_g (lw_at lw_m7 48 rfl) rfl
theorem q1564 : (Jvm.Cond.castable "ChantRules$Wrong" "ChantRules$Wrong") ∈ lw_tbl := lw_at lw_m7 49 rfl
theorem q1565 : (Jvm.Cond.selects "ChantRules$Wrong" ({ cls := "java/lang/Throwable", name := "fillInStackTrace", desc := "(I)Ljava/lang/Throwable;" } : Jvm.MethodName) ({ cls := "java/lang/Throwable", name := "fillInStackTrace", desc := "(I)Ljava/lang/Throwable;" } : Jvm.MethodName)) ∈ lw_all := lw_g (lw_at lw_m7 50 rfl) rfl
theorem q1566 : (Jvm.Cond.lays "ChantRules$Wrong" "java/lang/Throwable" "cause" "Ljava/lang/Throwable;") ∈ lw_all := lw_g (lw_at lw_m7 51 rfl) rfl
theorem q1567 : (Jvm.Cond.lays "ChantRules$Wrong" "java/lang/Throwable" "stackTrace" "[Ljava/lang/StackTraceElement;") ∈ lw_all := lw_g (lw_at lw_m7 52 rfl) rfl
theorem q1568 : (Jvm.Cond.lays "ChantRules$Wrong" "java/lang/Throwable" "suppressedExceptions" "Ljava/util/List;") ∈ lw_all := lw_g (lw_at lw_m7 53 rfl) rfl
theorem q1569 : (Jvm.Cond.lays "ChantRules$Wrong" "java/lang/Throwable" "detailMessage" "Ljava/lang/String;") ∈ lw_all := lw_g (lw_at lw_m7 54 rfl) rfl
theorem q1570 : (Jvm.Cond.lays "ChantRules$Wrong" "java/lang/Throwable" "backtrace" "Ljava/lang/Object;") ∈ lw_all := lw_g (lw_at lw_m7 55 rfl) rfl
theorem q1572 : (Jvm.Cond.instanceMethod ({ cls := "ChantRules$Wrong", name := "<init>", desc := "(I)V" } : Jvm.MethodName)) ∈ lw_all := lw_g (lw_at lw_m7 57 rfl) rfl
theorem q1573 : (Jvm.Cond.code ({ cls := "ChantRules$Wrong", name := "<init>", desc := "(I)V" } : Jvm.MethodName) prog_17_method_1_code (2 : Nat) (Option.none : Option Jvm.ClassFile.FieldType)) ∈ lw_all := lw_g (lw_at lw_m7 58 rfl) rfl
theorem q1574 : (Jvm.Cond.methodLink "ChantRules$Wrong" (1 : Nat) ({ cls := "java/lang/Exception", name := "<init>", desc := "(Ljava/lang/String;Ljava/lang/Throwable;ZZ)V" } : Jvm.MethodName)) ∈ lw_all := lw_g (lw_at lw_m7 59 rfl) rfl
theorem q1575 : (Jvm.Cond.fieldLink "ChantRules$Wrong" (7 : Nat) "ChantRules$Wrong" "at" "I") ∈ lw_all := lw_g (lw_at lw_m7 60 rfl) rfl
theorem q1577 : (Jvm.Cond.laysFinal "ChantRules$Wrong" "ChantRules$Wrong" "at" "I") ∈ lw_all := lw_g (lw_at lw_m7 62 rfl) rfl
theorem q1578 : (Jvm.Cond.soleField "ChantRules$Wrong" "at") ∈ lw_all := lw_g (lw_at lw_m7 63 rfl) rfl
theorem q1579 : (Jvm.Cond.lays "ChantRules$Wrong" "java/lang/Throwable" "depth" "I") ∈ lw_all := lw_g (lw_at lw_m7 64 rfl) rfl
theorem q1580 : (Jvm.Cond.superclass "ChantRules$Wrong" "java/lang/Exception") ∈ lw_all := lw_g (lw_at lw_m7 65 rfl) rfl
theorem q2382 : (Jvm.Cond.castable "ChantRules$Wrong" "java/lang/Object") ∈ lw_tbl := lw_at lw_m10 147 rfl
theorem in_X13 : ∀ w ∈ wsX130, w ∈ lw_all := lw_in wsX130 [1566, 1567, 1568, 1569, 1570, 1579, 1577] (by decide +kernel) (by decide +kernel)
/-! ChantRules$Command -/
set_option maxRecDepth 100000
def RX14 : String := "ChantRules$Command"
def TX14 : u_T := fun k => match k with
  | 0 => ("ChantRules$Command", "word", "C", true)
  | 1 => ("ChantRules$Command", "rule", "I", false)
  | 2 => ("ChantRules$Command", "one", "I", false)
  | 3 => ("ChantRules$Command", "two", "I", false)
  | 4 => ("ChantRules$Command", "hears", "I", false)
  | 5 => ("ChantRules$Command", "sings", "I", false)
  | _ => ("ChantRules$Command", "weight", "I", false)
def tyX14 : Nat → FieldType := fun k => match k with
  | 0 => .char
  | 1 => .int
  | 2 => .int
  | 3 => .int
  | 4 => .int
  | 5 => .int
  | _ => .int
abbrev wsX140 : List Cond := u_ws RX14 TX14 7
theorem nmX14 : ∀ a, a < 7 → ∀ b, b < 7 → a ≠ b → (TX14 a).2.1 ≠ (TX14 b).2.1 := by decide +kernel
theorem tyX14_ok : ∀ k, k < 7 → parseFieldDescriptor (TX14 k).2.2.1 = some (tyX14 k) := by decide +kernel
abbrev cX14_init : ByteArray := prog_5_method_1_code
def yX14_init : MethodName := ⟨RX14, "<init>", "(C)V"⟩
def dkwX14_init_0 : List UInt8 := [42, 183, 0, 1, 42, 27, 181, 0, 7, 177]
abbrev dktX14_init_0 : List UInt8 := dkwX14_init_0 ++ []
theorem dksX14_init_0 : cX14_init.data.toList.drop 0 = dktX14_init_0 := by decide +kernel
theorem dX14_init_0 : decode cX14_init 0 = .ok (.aload_n 0, 1) := dk_42 (dk_at dksX14_init_0 0 rfl rfl)
theorem dX14_init_1 : decode cX14_init 1 = .ok (.invokespecial 1, 3) := dk_183 0 1 (dk_at dksX14_init_0 1 rfl rfl)
theorem dX14_init_4 : decode cX14_init 4 = .ok (.aload_n 0, 1) := dk_42 (dk_at dksX14_init_0 4 rfl rfl)
theorem dX14_init_5 : decode cX14_init 5 = .ok (.iload_n 1, 1) := dk_27 (dk_at dksX14_init_0 5 rfl rfl)
theorem dX14_init_6 : decode cX14_init 6 = .ok (.putfield 7, 3) := dk_181 0 7 (dk_at dksX14_init_0 6 rfl rfl)
theorem dX14_init_9 : decode cX14_init 9 = .ok (.return_, 1) := dk_177 (dk_at dksX14_init_0 9 rfl rfl)
abbrev cX14_isDone : ByteArray := prog_5_method_3_code
def yX14_isDone : MethodName := ⟨RX14, "isDone", "(LChantRules$Choir;)Z"⟩
def dkwX14_isDone_10 : List UInt8 := [182, 0, 81, 155, 0, 7, 4, 167, 0, 4, 3, 172]
abbrev dktX14_isDone_10 : List UInt8 := dkwX14_isDone_10 ++ []
def dkwX14_isDone_9 : List UInt8 := [155, 0, 7, 4, 167, 0, 4, 3, 172, 42, 180, 0, 13, 184, 0, 52, 153, 0, 18, 43, 42, 180, 0, 13]
abbrev dktX14_isDone_9 : List UInt8 := dkwX14_isDone_9 ++ dktX14_isDone_10
def dkwX14_isDone_8 : List UInt8 := [42, 180, 0, 17, 182, 0, 72, 153, 0, 22, 43, 42, 180, 0, 13, 42, 180, 0, 17, 182, 0, 78]
abbrev dktX14_isDone_8 : List UInt8 := dkwX14_isDone_8 ++ dktX14_isDone_9
def dkwX14_isDone_7 : List UInt8 := [180, 0, 17, 42, 180, 0, 29, 182, 0, 75, 155, 0, 7, 4, 167, 0, 4, 3, 172, 43, 42, 180, 0, 13]
abbrev dktX14_isDone_7 : List UInt8 := dkwX14_isDone_7 ++ dktX14_isDone_8
def dkwX14_isDone_6 : List UInt8 := [153, 0, 40, 42, 180, 0, 29, 184, 0, 32, 153, 0, 30, 43, 180, 0, 55, 42, 180, 0, 13, 50, 42]
abbrev dktX14_isDone_6 : List UInt8 := dkwX14_isDone_6 ++ dktX14_isDone_7
def dkwX14_isDone_5 : List UInt8 := [167, 0, 4, 3, 172, 42, 43, 182, 0, 68, 172, 43, 42, 180, 0, 13, 42, 180, 0, 17, 182, 0, 72]
abbrev dktX14_isDone_5 : List UInt8 := dkwX14_isDone_5 ++ dktX14_isDone_6
def dkwX14_isDone_4 : List UInt8 := [43, 180, 0, 55, 42, 180, 0, 13, 50, 42, 180, 0, 17, 42, 180, 0, 29, 182, 0, 64, 155, 0, 7, 4]
abbrev dktX14_isDone_4 : List UInt8 := dkwX14_isDone_4 ++ dktX14_isDone_5
def dkwX14_isDone_3 : List UInt8 := [155, 0, 7, 4, 167, 0, 4, 3, 172, 43, 42, 180, 0, 13, 42, 180, 0, 17, 182, 0, 20, 153, 0, 30]
abbrev dktX14_isDone_3 : List UInt8 := dkwX14_isDone_3 ++ dktX14_isDone_4
def dkwX14_isDone_2 : List UInt8 := [42, 180, 0, 13, 184, 0, 52, 153, 0, 22, 43, 180, 0, 55, 42, 180, 0, 13, 50, 182, 0, 59]
abbrev dktX14_isDone_2 : List UInt8 := dkwX14_isDone_2 ++ dktX14_isDone_3
def dkwX14_isDone_1 : List UInt8 := [171, 0, 0, 0, 0, 0, 0, 223, 0, 0, 0, 5, 0, 0, 0, 97, 0, 0, 0, 127, 0, 0, 0, 100, 0, 0, 0, 187, 0, 0, 0, 102, 0, 0, 0, 83, 0, 0, 0, 115, 0, 0, 0, 52, 0, 0, 0, 119, 0, 0, 0, 133]
abbrev dktX14_isDone_1 : List UInt8 := dkwX14_isDone_1 ++ dktX14_isDone_2
def dkwX14_isDone_0 : List UInt8 := [42, 180, 0, 7]
abbrev dktX14_isDone_0 : List UInt8 := dkwX14_isDone_0 ++ dktX14_isDone_1
theorem dksX14_isDone_0 : cX14_isDone.data.toList.drop 0 = dktX14_isDone_0 := by decide +kernel
theorem dksX14_isDone_1 : cX14_isDone.data.toList.drop 4 = dktX14_isDone_1 := dk_seg dksX14_isDone_0 4 rfl rfl
theorem dksX14_isDone_2 : cX14_isDone.data.toList.drop 56 = dktX14_isDone_2 := dk_seg dksX14_isDone_1 52 rfl rfl
theorem dksX14_isDone_3 : cX14_isDone.data.toList.drop 78 = dktX14_isDone_3 := dk_seg dksX14_isDone_2 22 rfl rfl
theorem dksX14_isDone_4 : cX14_isDone.data.toList.drop 102 = dktX14_isDone_4 := dk_seg dksX14_isDone_3 24 rfl rfl
theorem dksX14_isDone_5 : cX14_isDone.data.toList.drop 126 = dktX14_isDone_5 := dk_seg dksX14_isDone_4 24 rfl rfl
theorem dksX14_isDone_6 : cX14_isDone.data.toList.drop 149 = dktX14_isDone_6 := dk_seg dksX14_isDone_5 23 rfl rfl
theorem dksX14_isDone_7 : cX14_isDone.data.toList.drop 172 = dktX14_isDone_7 := dk_seg dksX14_isDone_6 23 rfl rfl
theorem dksX14_isDone_8 : cX14_isDone.data.toList.drop 196 = dktX14_isDone_8 := dk_seg dksX14_isDone_7 24 rfl rfl
theorem dksX14_isDone_9 : cX14_isDone.data.toList.drop 218 = dktX14_isDone_9 := dk_seg dksX14_isDone_8 22 rfl rfl
theorem dksX14_isDone_10 : cX14_isDone.data.toList.drop 242 = dktX14_isDone_10 := dk_seg dksX14_isDone_9 24 rfl rfl
theorem dX14_isDone_0 : decode cX14_isDone 0 = .ok (.aload_n 0, 1) := dk_42 (dk_at dksX14_isDone_0 0 rfl rfl)
theorem dX14_isDone_1 : decode cX14_isDone 1 = .ok (.getfield 7, 3) := dk_180 0 7 (dk_at dksX14_isDone_0 1 rfl rfl)
theorem dX14_isDone_4 : decode cX14_isDone 4 = .ok (.lookupswitch 223 #[(97, 127), (100, 187), (102, 83), (115, 52), (119, 133)], 52) := by decide +kernel
theorem dX14_isDone_56 : decode cX14_isDone 56 = .ok (.aload_n 0, 1) := dk_42 (dk_at dksX14_isDone_2 0 rfl rfl)
theorem dX14_isDone_57 : decode cX14_isDone 57 = .ok (.getfield 13, 3) := dk_180 0 13 (dk_at dksX14_isDone_2 1 rfl rfl)
theorem dX14_isDone_60 : decode cX14_isDone 60 = .ok (.invokestatic 52, 3) := dk_184 0 52 (dk_at dksX14_isDone_2 4 rfl rfl)
theorem dX14_isDone_63 : decode cX14_isDone 63 = .ok (.ifCond .eq 22, 3) := dk_153 0 22 (dk_at dksX14_isDone_2 7 rfl rfl)
theorem dX14_isDone_66 : decode cX14_isDone 66 = .ok (.aload_n 1, 1) := dk_43 (dk_at dksX14_isDone_2 10 rfl rfl)
theorem dX14_isDone_67 : decode cX14_isDone 67 = .ok (.getfield 55, 3) := dk_180 0 55 (dk_at dksX14_isDone_2 11 rfl rfl)
theorem dX14_isDone_70 : decode cX14_isDone 70 = .ok (.aload_n 0, 1) := dk_42 (dk_at dksX14_isDone_2 14 rfl rfl)
theorem dX14_isDone_71 : decode cX14_isDone 71 = .ok (.getfield 13, 3) := dk_180 0 13 (dk_at dksX14_isDone_2 15 rfl rfl)
theorem dX14_isDone_74 : decode cX14_isDone 74 = .ok (.aaload, 1) := dk_50 (dk_at dksX14_isDone_2 18 rfl rfl)
theorem dX14_isDone_75 : decode cX14_isDone 75 = .ok (.invokevirtual 59, 3) := dk_182 0 59 (dk_at dksX14_isDone_2 19 rfl rfl)
theorem dX14_isDone_78 : decode cX14_isDone 78 = .ok (.ifCond .lt 7, 3) := dk_155 0 7 (dk_at dksX14_isDone_3 0 rfl rfl)
theorem dX14_isDone_81 : decode cX14_isDone 81 = .ok (.iconst 1, 1) := dk_4 (dk_at dksX14_isDone_3 3 rfl rfl)
theorem dX14_isDone_82 : decode cX14_isDone 82 = .ok (.goto 4, 3) := dk_167 0 4 (dk_at dksX14_isDone_3 4 rfl rfl)
theorem dX14_isDone_85 : decode cX14_isDone 85 = .ok (.iconst 0, 1) := dk_3 (dk_at dksX14_isDone_3 7 rfl rfl)
theorem dX14_isDone_86 : decode cX14_isDone 86 = .ok (.ireturn, 1) := dk_172 (dk_at dksX14_isDone_3 8 rfl rfl)
theorem dX14_isDone_87 : decode cX14_isDone 87 = .ok (.aload_n 1, 1) := dk_43 (dk_at dksX14_isDone_3 9 rfl rfl)
theorem dX14_isDone_88 : decode cX14_isDone 88 = .ok (.aload_n 0, 1) := dk_42 (dk_at dksX14_isDone_3 10 rfl rfl)
theorem dX14_isDone_89 : decode cX14_isDone 89 = .ok (.getfield 13, 3) := dk_180 0 13 (dk_at dksX14_isDone_3 11 rfl rfl)
theorem dX14_isDone_92 : decode cX14_isDone 92 = .ok (.aload_n 0, 1) := dk_42 (dk_at dksX14_isDone_3 14 rfl rfl)
theorem dX14_isDone_93 : decode cX14_isDone 93 = .ok (.getfield 17, 3) := dk_180 0 17 (dk_at dksX14_isDone_3 15 rfl rfl)
theorem dX14_isDone_96 : decode cX14_isDone 96 = .ok (.invokevirtual 20, 3) := dk_182 0 20 (dk_at dksX14_isDone_3 18 rfl rfl)
theorem dX14_isDone_99 : decode cX14_isDone 99 = .ok (.ifCond .eq 30, 3) := dk_153 0 30 (dk_at dksX14_isDone_3 21 rfl rfl)
theorem dX14_isDone_102 : decode cX14_isDone 102 = .ok (.aload_n 1, 1) := dk_43 (dk_at dksX14_isDone_4 0 rfl rfl)
theorem dX14_isDone_103 : decode cX14_isDone 103 = .ok (.getfield 55, 3) := dk_180 0 55 (dk_at dksX14_isDone_4 1 rfl rfl)
theorem dX14_isDone_106 : decode cX14_isDone 106 = .ok (.aload_n 0, 1) := dk_42 (dk_at dksX14_isDone_4 4 rfl rfl)
theorem dX14_isDone_107 : decode cX14_isDone 107 = .ok (.getfield 13, 3) := dk_180 0 13 (dk_at dksX14_isDone_4 5 rfl rfl)
theorem dX14_isDone_110 : decode cX14_isDone 110 = .ok (.aaload, 1) := dk_50 (dk_at dksX14_isDone_4 8 rfl rfl)
theorem dX14_isDone_111 : decode cX14_isDone 111 = .ok (.aload_n 0, 1) := dk_42 (dk_at dksX14_isDone_4 9 rfl rfl)
theorem dX14_isDone_112 : decode cX14_isDone 112 = .ok (.getfield 17, 3) := dk_180 0 17 (dk_at dksX14_isDone_4 10 rfl rfl)
theorem dX14_isDone_115 : decode cX14_isDone 115 = .ok (.aload_n 0, 1) := dk_42 (dk_at dksX14_isDone_4 13 rfl rfl)
theorem dX14_isDone_116 : decode cX14_isDone 116 = .ok (.getfield 29, 3) := dk_180 0 29 (dk_at dksX14_isDone_4 14 rfl rfl)
theorem dX14_isDone_119 : decode cX14_isDone 119 = .ok (.invokevirtual 64, 3) := dk_182 0 64 (dk_at dksX14_isDone_4 17 rfl rfl)
theorem dX14_isDone_122 : decode cX14_isDone 122 = .ok (.ifCond .lt 7, 3) := dk_155 0 7 (dk_at dksX14_isDone_4 20 rfl rfl)
theorem dX14_isDone_125 : decode cX14_isDone 125 = .ok (.iconst 1, 1) := dk_4 (dk_at dksX14_isDone_4 23 rfl rfl)
theorem dX14_isDone_126 : decode cX14_isDone 126 = .ok (.goto 4, 3) := dk_167 0 4 (dk_at dksX14_isDone_5 0 rfl rfl)
theorem dX14_isDone_129 : decode cX14_isDone 129 = .ok (.iconst 0, 1) := dk_3 (dk_at dksX14_isDone_5 3 rfl rfl)
theorem dX14_isDone_130 : decode cX14_isDone 130 = .ok (.ireturn, 1) := dk_172 (dk_at dksX14_isDone_5 4 rfl rfl)
theorem dX14_isDone_131 : decode cX14_isDone 131 = .ok (.aload_n 0, 1) := dk_42 (dk_at dksX14_isDone_5 5 rfl rfl)
theorem dX14_isDone_132 : decode cX14_isDone 132 = .ok (.aload_n 1, 1) := dk_43 (dk_at dksX14_isDone_5 6 rfl rfl)
theorem dX14_isDone_133 : decode cX14_isDone 133 = .ok (.invokevirtual 68, 3) := dk_182 0 68 (dk_at dksX14_isDone_5 7 rfl rfl)
theorem dX14_isDone_136 : decode cX14_isDone 136 = .ok (.ireturn, 1) := dk_172 (dk_at dksX14_isDone_5 10 rfl rfl)
theorem dX14_isDone_137 : decode cX14_isDone 137 = .ok (.aload_n 1, 1) := dk_43 (dk_at dksX14_isDone_5 11 rfl rfl)
theorem dX14_isDone_138 : decode cX14_isDone 138 = .ok (.aload_n 0, 1) := dk_42 (dk_at dksX14_isDone_5 12 rfl rfl)
theorem dX14_isDone_139 : decode cX14_isDone 139 = .ok (.getfield 13, 3) := dk_180 0 13 (dk_at dksX14_isDone_5 13 rfl rfl)
theorem dX14_isDone_142 : decode cX14_isDone 142 = .ok (.aload_n 0, 1) := dk_42 (dk_at dksX14_isDone_5 16 rfl rfl)
theorem dX14_isDone_143 : decode cX14_isDone 143 = .ok (.getfield 17, 3) := dk_180 0 17 (dk_at dksX14_isDone_5 17 rfl rfl)
theorem dX14_isDone_146 : decode cX14_isDone 146 = .ok (.invokevirtual 72, 3) := dk_182 0 72 (dk_at dksX14_isDone_5 20 rfl rfl)
theorem dX14_isDone_149 : decode cX14_isDone 149 = .ok (.ifCond .eq 40, 3) := dk_153 0 40 (dk_at dksX14_isDone_6 0 rfl rfl)
theorem dX14_isDone_152 : decode cX14_isDone 152 = .ok (.aload_n 0, 1) := dk_42 (dk_at dksX14_isDone_6 3 rfl rfl)
theorem dX14_isDone_153 : decode cX14_isDone 153 = .ok (.getfield 29, 3) := dk_180 0 29 (dk_at dksX14_isDone_6 4 rfl rfl)
theorem dX14_isDone_156 : decode cX14_isDone 156 = .ok (.invokestatic 32, 3) := dk_184 0 32 (dk_at dksX14_isDone_6 7 rfl rfl)
theorem dX14_isDone_159 : decode cX14_isDone 159 = .ok (.ifCond .eq 30, 3) := dk_153 0 30 (dk_at dksX14_isDone_6 10 rfl rfl)
theorem dX14_isDone_162 : decode cX14_isDone 162 = .ok (.aload_n 1, 1) := dk_43 (dk_at dksX14_isDone_6 13 rfl rfl)
theorem dX14_isDone_163 : decode cX14_isDone 163 = .ok (.getfield 55, 3) := dk_180 0 55 (dk_at dksX14_isDone_6 14 rfl rfl)
theorem dX14_isDone_166 : decode cX14_isDone 166 = .ok (.aload_n 0, 1) := dk_42 (dk_at dksX14_isDone_6 17 rfl rfl)
theorem dX14_isDone_167 : decode cX14_isDone 167 = .ok (.getfield 13, 3) := dk_180 0 13 (dk_at dksX14_isDone_6 18 rfl rfl)
theorem dX14_isDone_170 : decode cX14_isDone 170 = .ok (.aaload, 1) := dk_50 (dk_at dksX14_isDone_6 21 rfl rfl)
theorem dX14_isDone_171 : decode cX14_isDone 171 = .ok (.aload_n 0, 1) := dk_42 (dk_at dksX14_isDone_6 22 rfl rfl)
theorem dX14_isDone_172 : decode cX14_isDone 172 = .ok (.getfield 17, 3) := dk_180 0 17 (dk_at dksX14_isDone_7 0 rfl rfl)
theorem dX14_isDone_175 : decode cX14_isDone 175 = .ok (.aload_n 0, 1) := dk_42 (dk_at dksX14_isDone_7 3 rfl rfl)
theorem dX14_isDone_176 : decode cX14_isDone 176 = .ok (.getfield 29, 3) := dk_180 0 29 (dk_at dksX14_isDone_7 4 rfl rfl)
theorem dX14_isDone_179 : decode cX14_isDone 179 = .ok (.invokevirtual 75, 3) := dk_182 0 75 (dk_at dksX14_isDone_7 7 rfl rfl)
theorem dX14_isDone_182 : decode cX14_isDone 182 = .ok (.ifCond .lt 7, 3) := dk_155 0 7 (dk_at dksX14_isDone_7 10 rfl rfl)
theorem dX14_isDone_185 : decode cX14_isDone 185 = .ok (.iconst 1, 1) := dk_4 (dk_at dksX14_isDone_7 13 rfl rfl)
theorem dX14_isDone_186 : decode cX14_isDone 186 = .ok (.goto 4, 3) := dk_167 0 4 (dk_at dksX14_isDone_7 14 rfl rfl)
theorem dX14_isDone_189 : decode cX14_isDone 189 = .ok (.iconst 0, 1) := dk_3 (dk_at dksX14_isDone_7 17 rfl rfl)
theorem dX14_isDone_190 : decode cX14_isDone 190 = .ok (.ireturn, 1) := dk_172 (dk_at dksX14_isDone_7 18 rfl rfl)
theorem dX14_isDone_191 : decode cX14_isDone 191 = .ok (.aload_n 1, 1) := dk_43 (dk_at dksX14_isDone_7 19 rfl rfl)
theorem dX14_isDone_192 : decode cX14_isDone 192 = .ok (.aload_n 0, 1) := dk_42 (dk_at dksX14_isDone_7 20 rfl rfl)
theorem dX14_isDone_193 : decode cX14_isDone 193 = .ok (.getfield 13, 3) := dk_180 0 13 (dk_at dksX14_isDone_7 21 rfl rfl)
theorem dX14_isDone_196 : decode cX14_isDone 196 = .ok (.aload_n 0, 1) := dk_42 (dk_at dksX14_isDone_8 0 rfl rfl)
theorem dX14_isDone_197 : decode cX14_isDone 197 = .ok (.getfield 17, 3) := dk_180 0 17 (dk_at dksX14_isDone_8 1 rfl rfl)
theorem dX14_isDone_200 : decode cX14_isDone 200 = .ok (.invokevirtual 72, 3) := dk_182 0 72 (dk_at dksX14_isDone_8 4 rfl rfl)
theorem dX14_isDone_203 : decode cX14_isDone 203 = .ok (.ifCond .eq 22, 3) := dk_153 0 22 (dk_at dksX14_isDone_8 7 rfl rfl)
theorem dX14_isDone_206 : decode cX14_isDone 206 = .ok (.aload_n 1, 1) := dk_43 (dk_at dksX14_isDone_8 10 rfl rfl)
theorem dX14_isDone_207 : decode cX14_isDone 207 = .ok (.aload_n 0, 1) := dk_42 (dk_at dksX14_isDone_8 11 rfl rfl)
theorem dX14_isDone_208 : decode cX14_isDone 208 = .ok (.getfield 13, 3) := dk_180 0 13 (dk_at dksX14_isDone_8 12 rfl rfl)
theorem dX14_isDone_211 : decode cX14_isDone 211 = .ok (.aload_n 0, 1) := dk_42 (dk_at dksX14_isDone_8 15 rfl rfl)
theorem dX14_isDone_212 : decode cX14_isDone 212 = .ok (.getfield 17, 3) := dk_180 0 17 (dk_at dksX14_isDone_8 16 rfl rfl)
theorem dX14_isDone_215 : decode cX14_isDone 215 = .ok (.invokevirtual 78, 3) := dk_182 0 78 (dk_at dksX14_isDone_8 19 rfl rfl)
theorem dX14_isDone_218 : decode cX14_isDone 218 = .ok (.ifCond .lt 7, 3) := dk_155 0 7 (dk_at dksX14_isDone_9 0 rfl rfl)
theorem dX14_isDone_221 : decode cX14_isDone 221 = .ok (.iconst 1, 1) := dk_4 (dk_at dksX14_isDone_9 3 rfl rfl)
theorem dX14_isDone_222 : decode cX14_isDone 222 = .ok (.goto 4, 3) := dk_167 0 4 (dk_at dksX14_isDone_9 4 rfl rfl)
theorem dX14_isDone_225 : decode cX14_isDone 225 = .ok (.iconst 0, 1) := dk_3 (dk_at dksX14_isDone_9 7 rfl rfl)
theorem dX14_isDone_226 : decode cX14_isDone 226 = .ok (.ireturn, 1) := dk_172 (dk_at dksX14_isDone_9 8 rfl rfl)
theorem dX14_isDone_227 : decode cX14_isDone 227 = .ok (.aload_n 0, 1) := dk_42 (dk_at dksX14_isDone_9 9 rfl rfl)
theorem dX14_isDone_228 : decode cX14_isDone 228 = .ok (.getfield 13, 3) := dk_180 0 13 (dk_at dksX14_isDone_9 10 rfl rfl)
theorem dX14_isDone_231 : decode cX14_isDone 231 = .ok (.invokestatic 52, 3) := dk_184 0 52 (dk_at dksX14_isDone_9 13 rfl rfl)
theorem dX14_isDone_234 : decode cX14_isDone 234 = .ok (.ifCond .eq 18, 3) := dk_153 0 18 (dk_at dksX14_isDone_9 16 rfl rfl)
theorem dX14_isDone_237 : decode cX14_isDone 237 = .ok (.aload_n 1, 1) := dk_43 (dk_at dksX14_isDone_9 19 rfl rfl)
theorem dX14_isDone_238 : decode cX14_isDone 238 = .ok (.aload_n 0, 1) := dk_42 (dk_at dksX14_isDone_9 20 rfl rfl)
theorem dX14_isDone_239 : decode cX14_isDone 239 = .ok (.getfield 13, 3) := dk_180 0 13 (dk_at dksX14_isDone_9 21 rfl rfl)
theorem dX14_isDone_242 : decode cX14_isDone 242 = .ok (.invokevirtual 81, 3) := dk_182 0 81 (dk_at dksX14_isDone_10 0 rfl rfl)
theorem dX14_isDone_245 : decode cX14_isDone 245 = .ok (.ifCond .lt 7, 3) := dk_155 0 7 (dk_at dksX14_isDone_10 3 rfl rfl)
theorem dX14_isDone_248 : decode cX14_isDone 248 = .ok (.iconst 1, 1) := dk_4 (dk_at dksX14_isDone_10 6 rfl rfl)
theorem dX14_isDone_249 : decode cX14_isDone 249 = .ok (.goto 4, 3) := dk_167 0 4 (dk_at dksX14_isDone_10 7 rfl rfl)
theorem dX14_isDone_252 : decode cX14_isDone 252 = .ok (.iconst 0, 1) := dk_3 (dk_at dksX14_isDone_10 10 rfl rfl)
theorem dX14_isDone_253 : decode cX14_isDone 253 = .ok (.ireturn, 1) := dk_172 (dk_at dksX14_isDone_10 11 rfl rfl)
abbrev cX14_isArcDone : ByteArray := prog_5_method_2_code
def yX14_isArcDone : MethodName := ⟨RX14, "isArcDone", "(LChantRules$Choir;)Z"⟩
def dkwX14_isArcDone_3 : List UInt8 := [42, 180, 0, 29, 184, 0, 44, 182, 0, 48, 155, 0, 7, 4, 167, 0, 4, 3, 172]
abbrev dktX14_isArcDone_3 : List UInt8 := dkwX14_isArcDone_3 ++ []
def dkwX14_isArcDone_2 : List UInt8 := [153, 0, 41, 43, 42, 180, 0, 13, 42, 180, 0, 17, 42, 180, 0, 26, 42, 180, 0, 38, 42, 180, 0, 41]
abbrev dktX14_isArcDone_2 : List UInt8 := dkwX14_isArcDone_2 ++ dktX14_isArcDone_3
def dkwX14_isArcDone_1 : List UInt8 := [182, 0, 20, 153, 0, 17, 42, 180, 0, 29, 184, 0, 32, 153, 0, 7, 4, 167, 0, 4, 3, 61, 28]
abbrev dktX14_isArcDone_1 : List UInt8 := dkwX14_isArcDone_1 ++ dktX14_isArcDone_2
def dkwX14_isArcDone_0 : List UInt8 := [43, 42, 180, 0, 13, 42, 180, 0, 17, 182, 0, 20, 153, 0, 32, 43, 42, 180, 0, 13, 42, 180, 0, 26]
abbrev dktX14_isArcDone_0 : List UInt8 := dkwX14_isArcDone_0 ++ dktX14_isArcDone_1
theorem dksX14_isArcDone_0 : cX14_isArcDone.data.toList.drop 0 = dktX14_isArcDone_0 := by decide +kernel
theorem dksX14_isArcDone_1 : cX14_isArcDone.data.toList.drop 24 = dktX14_isArcDone_1 := dk_seg dksX14_isArcDone_0 24 rfl rfl
theorem dksX14_isArcDone_2 : cX14_isArcDone.data.toList.drop 47 = dktX14_isArcDone_2 := dk_seg dksX14_isArcDone_1 23 rfl rfl
theorem dksX14_isArcDone_3 : cX14_isArcDone.data.toList.drop 71 = dktX14_isArcDone_3 := dk_seg dksX14_isArcDone_2 24 rfl rfl
theorem dX14_isArcDone_0 : decode cX14_isArcDone 0 = .ok (.aload_n 1, 1) := dk_43 (dk_at dksX14_isArcDone_0 0 rfl rfl)
theorem dX14_isArcDone_1 : decode cX14_isArcDone 1 = .ok (.aload_n 0, 1) := dk_42 (dk_at dksX14_isArcDone_0 1 rfl rfl)
theorem dX14_isArcDone_2 : decode cX14_isArcDone 2 = .ok (.getfield 13, 3) := dk_180 0 13 (dk_at dksX14_isArcDone_0 2 rfl rfl)
theorem dX14_isArcDone_5 : decode cX14_isArcDone 5 = .ok (.aload_n 0, 1) := dk_42 (dk_at dksX14_isArcDone_0 5 rfl rfl)
theorem dX14_isArcDone_6 : decode cX14_isArcDone 6 = .ok (.getfield 17, 3) := dk_180 0 17 (dk_at dksX14_isArcDone_0 6 rfl rfl)
theorem dX14_isArcDone_9 : decode cX14_isArcDone 9 = .ok (.invokevirtual 20, 3) := dk_182 0 20 (dk_at dksX14_isArcDone_0 9 rfl rfl)
theorem dX14_isArcDone_12 : decode cX14_isArcDone 12 = .ok (.ifCond .eq 32, 3) := dk_153 0 32 (dk_at dksX14_isArcDone_0 12 rfl rfl)
theorem dX14_isArcDone_15 : decode cX14_isArcDone 15 = .ok (.aload_n 1, 1) := dk_43 (dk_at dksX14_isArcDone_0 15 rfl rfl)
theorem dX14_isArcDone_16 : decode cX14_isArcDone 16 = .ok (.aload_n 0, 1) := dk_42 (dk_at dksX14_isArcDone_0 16 rfl rfl)
theorem dX14_isArcDone_17 : decode cX14_isArcDone 17 = .ok (.getfield 13, 3) := dk_180 0 13 (dk_at dksX14_isArcDone_0 17 rfl rfl)
theorem dX14_isArcDone_20 : decode cX14_isArcDone 20 = .ok (.aload_n 0, 1) := dk_42 (dk_at dksX14_isArcDone_0 20 rfl rfl)
theorem dX14_isArcDone_21 : decode cX14_isArcDone 21 = .ok (.getfield 26, 3) := dk_180 0 26 (dk_at dksX14_isArcDone_0 21 rfl rfl)
theorem dX14_isArcDone_24 : decode cX14_isArcDone 24 = .ok (.invokevirtual 20, 3) := dk_182 0 20 (dk_at dksX14_isArcDone_1 0 rfl rfl)
theorem dX14_isArcDone_27 : decode cX14_isArcDone 27 = .ok (.ifCond .eq 17, 3) := dk_153 0 17 (dk_at dksX14_isArcDone_1 3 rfl rfl)
theorem dX14_isArcDone_30 : decode cX14_isArcDone 30 = .ok (.aload_n 0, 1) := dk_42 (dk_at dksX14_isArcDone_1 6 rfl rfl)
theorem dX14_isArcDone_31 : decode cX14_isArcDone 31 = .ok (.getfield 29, 3) := dk_180 0 29 (dk_at dksX14_isArcDone_1 7 rfl rfl)
theorem dX14_isArcDone_34 : decode cX14_isArcDone 34 = .ok (.invokestatic 32, 3) := dk_184 0 32 (dk_at dksX14_isArcDone_1 10 rfl rfl)
theorem dX14_isArcDone_37 : decode cX14_isArcDone 37 = .ok (.ifCond .eq 7, 3) := dk_153 0 7 (dk_at dksX14_isArcDone_1 13 rfl rfl)
theorem dX14_isArcDone_40 : decode cX14_isArcDone 40 = .ok (.iconst 1, 1) := dk_4 (dk_at dksX14_isArcDone_1 16 rfl rfl)
theorem dX14_isArcDone_41 : decode cX14_isArcDone 41 = .ok (.goto 4, 3) := dk_167 0 4 (dk_at dksX14_isArcDone_1 17 rfl rfl)
theorem dX14_isArcDone_44 : decode cX14_isArcDone 44 = .ok (.iconst 0, 1) := dk_3 (dk_at dksX14_isArcDone_1 20 rfl rfl)
theorem dX14_isArcDone_45 : decode cX14_isArcDone 45 = .ok (.istore_n 2, 1) := dk_61 (dk_at dksX14_isArcDone_1 21 rfl rfl)
theorem dX14_isArcDone_46 : decode cX14_isArcDone 46 = .ok (.iload_n 2, 1) := dk_28 (dk_at dksX14_isArcDone_1 22 rfl rfl)
theorem dX14_isArcDone_47 : decode cX14_isArcDone 47 = .ok (.ifCond .eq 41, 3) := dk_153 0 41 (dk_at dksX14_isArcDone_2 0 rfl rfl)
theorem dX14_isArcDone_50 : decode cX14_isArcDone 50 = .ok (.aload_n 1, 1) := dk_43 (dk_at dksX14_isArcDone_2 3 rfl rfl)
theorem dX14_isArcDone_51 : decode cX14_isArcDone 51 = .ok (.aload_n 0, 1) := dk_42 (dk_at dksX14_isArcDone_2 4 rfl rfl)
theorem dX14_isArcDone_52 : decode cX14_isArcDone 52 = .ok (.getfield 13, 3) := dk_180 0 13 (dk_at dksX14_isArcDone_2 5 rfl rfl)
theorem dX14_isArcDone_55 : decode cX14_isArcDone 55 = .ok (.aload_n 0, 1) := dk_42 (dk_at dksX14_isArcDone_2 8 rfl rfl)
theorem dX14_isArcDone_56 : decode cX14_isArcDone 56 = .ok (.getfield 17, 3) := dk_180 0 17 (dk_at dksX14_isArcDone_2 9 rfl rfl)
theorem dX14_isArcDone_59 : decode cX14_isArcDone 59 = .ok (.aload_n 0, 1) := dk_42 (dk_at dksX14_isArcDone_2 12 rfl rfl)
theorem dX14_isArcDone_60 : decode cX14_isArcDone 60 = .ok (.getfield 26, 3) := dk_180 0 26 (dk_at dksX14_isArcDone_2 13 rfl rfl)
theorem dX14_isArcDone_63 : decode cX14_isArcDone 63 = .ok (.aload_n 0, 1) := dk_42 (dk_at dksX14_isArcDone_2 16 rfl rfl)
theorem dX14_isArcDone_64 : decode cX14_isArcDone 64 = .ok (.getfield 38, 3) := dk_180 0 38 (dk_at dksX14_isArcDone_2 17 rfl rfl)
theorem dX14_isArcDone_67 : decode cX14_isArcDone 67 = .ok (.aload_n 0, 1) := dk_42 (dk_at dksX14_isArcDone_2 20 rfl rfl)
theorem dX14_isArcDone_68 : decode cX14_isArcDone 68 = .ok (.getfield 41, 3) := dk_180 0 41 (dk_at dksX14_isArcDone_2 21 rfl rfl)
theorem dX14_isArcDone_71 : decode cX14_isArcDone 71 = .ok (.aload_n 0, 1) := dk_42 (dk_at dksX14_isArcDone_3 0 rfl rfl)
theorem dX14_isArcDone_72 : decode cX14_isArcDone 72 = .ok (.getfield 29, 3) := dk_180 0 29 (dk_at dksX14_isArcDone_3 1 rfl rfl)
theorem dX14_isArcDone_75 : decode cX14_isArcDone 75 = .ok (.invokestatic 44, 3) := dk_184 0 44 (dk_at dksX14_isArcDone_3 4 rfl rfl)
theorem dX14_isArcDone_78 : decode cX14_isArcDone 78 = .ok (.invokevirtual 48, 3) := dk_182 0 48 (dk_at dksX14_isArcDone_3 7 rfl rfl)
theorem dX14_isArcDone_81 : decode cX14_isArcDone 81 = .ok (.ifCond .lt 7, 3) := dk_155 0 7 (dk_at dksX14_isArcDone_3 10 rfl rfl)
theorem dX14_isArcDone_84 : decode cX14_isArcDone 84 = .ok (.iconst 1, 1) := dk_4 (dk_at dksX14_isArcDone_3 13 rfl rfl)
theorem dX14_isArcDone_85 : decode cX14_isArcDone 85 = .ok (.goto 4, 3) := dk_167 0 4 (dk_at dksX14_isArcDone_3 14 rfl rfl)
theorem dX14_isArcDone_88 : decode cX14_isArcDone 88 = .ok (.iconst 0, 1) := dk_3 (dk_at dksX14_isArcDone_3 17 rfl rfl)
theorem dX14_isArcDone_89 : decode cX14_isArcDone 89 = .ok (.ireturn, 1) := dk_172 (dk_at dksX14_isArcDone_3 18 rfl rfl)
theorem q112 : (Jvm.Cond.initialized "ChantRules$Command") ∈ lw_all := lw_g (lw_at lw_m1 37 rfl) rfl
theorem q193 : (Jvm.Cond.fieldLinkNest "ChantRules$Command" (55 : Nat) "ChantRules$Choir" "rules" "[LChantRules$Rule;" "ChantRules") ∈ lw_tbl := lw_at lw_m1 118 rfl
theorem q438 : (Jvm.Cond.selects "ChantRules$Command" ({ cls := "java/lang/Object", name := "getClass", desc := "()Ljava/lang/Class;" } : Jvm.MethodName) ({ cls := "java/lang/Object", name := "getClass", desc := "()Ljava/lang/Class;" } : Jvm.MethodName)) ∈ lw_all := lw_g (lw_at lw_m2 123 rfl) rfl
theorem q1582 : (Jvm.Cond.instantiable "ChantRules$Command" (7 : Nat)) ∈ lw_all := lw_g (lw_at lw_m7 67 rfl) rfl
theorem q1584 : (Jvm.Cond.instanceMethod ({ cls := "ChantRules$Command", name := "<init>", desc := "(C)V" } : Jvm.MethodName)) ∈ lw_all := lw_g (lw_at lw_m7 69 rfl) rfl
theorem q1585 : (Jvm.Cond.code ({ cls := "ChantRules$Command", name := "<init>", desc := "(C)V" } : Jvm.MethodName) prog_5_method_1_code (2 : Nat) (Option.none : Option Jvm.ClassFile.FieldType)) ∈ lw_all := lw_g (lw_at lw_m7 70 rfl) rfl
theorem q1586 : (Jvm.Cond.methodLink "ChantRules$Command" (1 : Nat) ({ cls := "java/lang/Object", name := "<init>", desc := "()V" } : Jvm.MethodName)) ∈ lw_all := lw_g (lw_at lw_m7 71 rfl) rfl
theorem q1587 : (Jvm.Cond.fieldLink "ChantRules$Command" (7 : Nat) "ChantRules$Command" "word" "C") ∈ lw_all := lw_g (lw_at lw_m7 72 rfl) rfl
theorem q1589 : (Jvm.Cond.fieldLink "ChantRules$Command" (13 : Nat) "ChantRules$Command" "rule" "I") ∈ lw_all := lw_g (lw_at lw_m7 74 rfl) rfl
theorem q1591 : (Jvm.Cond.fieldLink "ChantRules$Command" (17 : Nat) "ChantRules$Command" "one" "I") ∈ lw_all := lw_g (lw_at lw_m7 76 rfl) rfl
theorem q1593 : (Jvm.Cond.fieldLink "ChantRules$Command" (26 : Nat) "ChantRules$Command" "two" "I") ∈ lw_all := lw_g (lw_at lw_m7 78 rfl) rfl
theorem q1595 : (Jvm.Cond.fieldLink "ChantRules$Command" (38 : Nat) "ChantRules$Command" "hears" "I") ∈ lw_all := lw_g (lw_at lw_m7 80 rfl) rfl
theorem q1597 : (Jvm.Cond.fieldLink "ChantRules$Command" (41 : Nat) "ChantRules$Command" "sings" "I") ∈ lw_all := lw_g (lw_at lw_m7 82 rfl) rfl
theorem q1599 : (Jvm.Cond.fieldLink "ChantRules$Command" (29 : Nat) "ChantRules$Command" "weight" "I") ∈ lw_all := lw_g (lw_at lw_m7 84 rfl) rfl
theorem q1601 : (Jvm.Cond.laysFinal "ChantRules$Command" "ChantRules$Command" "word" "C") ∈ lw_all := lw_g (lw_at lw_m7 86 rfl) rfl
theorem q1602 : (Jvm.Cond.soleField "ChantRules$Command" "word") ∈ lw_all := lw_g (lw_at lw_m7 87 rfl) rfl
theorem q1603 : (Jvm.Cond.lays "ChantRules$Command" "ChantRules$Command" "rule" "I") ∈ lw_all := lw_g (lw_at lw_m7 88 rfl) rfl
theorem q1604 : (Jvm.Cond.soleField "ChantRules$Command" "rule") ∈ lw_all := lw_g (lw_at lw_m7 89 rfl) rfl
theorem q1605 : (Jvm.Cond.lays "ChantRules$Command" "ChantRules$Command" "one" "I") ∈ lw_all := lw_g (lw_at lw_m7 90 rfl) rfl
theorem q1606 : (Jvm.Cond.soleField "ChantRules$Command" "one") ∈ lw_all := lw_g (lw_at lw_m7 91 rfl) rfl
theorem q1607 : (Jvm.Cond.lays "ChantRules$Command" "ChantRules$Command" "two" "I") ∈ lw_all := lw_g (lw_at lw_m7 92 rfl) rfl
theorem q1608 : (Jvm.Cond.soleField "ChantRules$Command" "two") ∈ lw_all := lw_g (lw_at lw_m7 93 rfl) rfl
theorem q1609 : (Jvm.Cond.lays "ChantRules$Command" "ChantRules$Command" "hears" "I") ∈ lw_all := lw_g (lw_at lw_m7 94 rfl) rfl
theorem q1610 : (Jvm.Cond.soleField "ChantRules$Command" "hears") ∈ lw_all := lw_g (lw_at lw_m7 95 rfl) rfl
theorem q1611 : (Jvm.Cond.lays "ChantRules$Command" "ChantRules$Command" "sings" "I") ∈ lw_all := lw_g (lw_at lw_m7 96 rfl) rfl
theorem q1612 : (Jvm.Cond.soleField "ChantRules$Command" "sings") ∈ lw_all := lw_g (lw_at lw_m7 97 rfl) rfl
theorem q1613 : (Jvm.Cond.lays "ChantRules$Command" "ChantRules$Command" "weight" "I") ∈ lw_all := lw_g (lw_at lw_m7 98 rfl) rfl
theorem q1614 : (Jvm.Cond.soleField "ChantRules$Command" "weight") ∈ lw_all := lw_g (lw_at lw_m7 99 rfl) rfl
theorem q1615 : (Jvm.Cond.superclass "ChantRules$Command" "java/lang/Object") ∈ lw_all := lw_g (lw_at lw_m7 100 rfl) rfl
theorem q1694 : (Jvm.Cond.instanceMethod ({ cls := "ChantRules$Command", name := "isDone", desc := "(LChantRules$Choir;)Z" } : Jvm.MethodName)) ∈ lw_all := lw_g (lw_at lw_m7 179 rfl) rfl
theorem q1695 : (Jvm.Cond.selects "ChantRules$Command" ({ cls := "ChantRules$Command", name := "isDone", desc := "(LChantRules$Choir;)Z" } : Jvm.MethodName) ({ cls := "ChantRules$Command", name := "isDone", desc := "(LChantRules$Choir;)Z" } : Jvm.MethodName)) ∈ lw_all := lw_g (lw_at lw_m7 180 rfl) rfl
theorem q1696 : (Jvm.Cond.code ({ cls := "ChantRules$Command", name := "isDone", desc := "(LChantRules$Choir;)Z" } : Jvm.MethodName) prog_5_method_3_code (2 : Nat) (Option.some Jvm.ClassFile.FieldType.boolean)) ∈ lw_all := lw_g (lw_at lw_m7 181 rfl) rfl
theorem q1697 : (Jvm.Cond.methodLinkNest "ChantRules$Command" (52 : Nat) ({ cls := "ChantRules", name := "isRule", desc := "(I)Z" } : Jvm.MethodName) "ChantRules") ∈ lw_tbl := lw_at lw_m7 182 rfl
theorem q1698 : (Jvm.Cond.methodLink "ChantRules$Command" (59 : Nat) ({ cls := "ChantRules$Rule", name := "tells", desc := "()I" } : Jvm.MethodName)) ∈ lw_all := lw_g (lw_at lw_m7 183 rfl) rfl
theorem q1699 : (Jvm.Cond.methodLink "ChantRules$Command" (20 : Nat) ({ cls := "ChantRules$Choir", name := "isState", desc := "(II)Z" } : Jvm.MethodName)) ∈ lw_all := lw_g (lw_at lw_m7 184 rfl) rfl
theorem q1700 : (Jvm.Cond.methodLink "ChantRules$Command" (64 : Nat) ({ cls := "ChantRules$Rule", name := "ends", desc := "(II)I" } : Jvm.MethodName)) ∈ lw_all := lw_g (lw_at lw_m7 185 rfl) rfl
theorem q1701 : (Jvm.Cond.methodLink "ChantRules$Command" (68 : Nat) ({ cls := "ChantRules$Command", name := "isArcDone", desc := "(LChantRules$Choir;)Z" } : Jvm.MethodName)) ∈ lw_all := lw_g (lw_at lw_m7 186 rfl) rfl
theorem q1702 : (Jvm.Cond.privateMethod ({ cls := "ChantRules$Command", name := "isArcDone", desc := "(LChantRules$Choir;)Z" } : Jvm.MethodName)) ∈ lw_tbl := lw_at lw_m7 187 rfl
theorem q1703 : (Jvm.Cond.instanceMethod ({ cls := "ChantRules$Command", name := "isArcDone", desc := "(LChantRules$Choir;)Z" } : Jvm.MethodName)) ∈ lw_all := lw_g (lw_at lw_m7 188 rfl) rfl
theorem q1704 : (Jvm.Cond.code ({ cls := "ChantRules$Command", name := "isArcDone", desc := "(LChantRules$Choir;)Z" } : Jvm.MethodName) prog_5_method_2_code (3 : Nat) (Option.some Jvm.ClassFile.FieldType.boolean)) ∈ lw_all := lw_g (lw_at lw_m7 189 rfl) rfl
theorem q1705 : (Jvm.Cond.methodLinkNest "ChantRules$Command" (32 : Nat) ({ cls := "ChantRules", name := "isWeight", desc := "(I)Z" } : Jvm.MethodName) "ChantRules") ∈ lw_tbl := lw_at lw_m7 190 rfl
theorem q1706 : (Jvm.Cond.methodLinkNest "ChantRules$Command" (44 : Nat) ({ cls := "ChantRules", name := "arcOf", desc := "(IIIII)LChantRules$Arc;" } : Jvm.MethodName) "ChantRules") ∈ lw_tbl := lw_at lw_m7 191 rfl
theorem q1707 : (Jvm.Cond.methodLink "ChantRules$Command" (48 : Nat) ({ cls := "ChantRules$Choir", name := "tells", desc := "(ILChantRules$Arc;)I" } : Jvm.MethodName)) ∈ lw_all := lw_g (lw_at lw_m7 192 rfl) rfl
theorem q1708 : (Jvm.Cond.methodLink "ChantRules$Command" (72 : Nat) ({ cls := "ChantRules$Choir", name := "isArc", desc := "(II)Z" } : Jvm.MethodName)) ∈ lw_all := lw_g (lw_at lw_m7 193 rfl) rfl
theorem q1709 : (Jvm.Cond.methodLink "ChantRules$Command" (75 : Nat) ({ cls := "ChantRules$Rule", name := "weighs", desc := "(II)I" } : Jvm.MethodName)) ∈ lw_all := lw_g (lw_at lw_m7 194 rfl) rfl
theorem q1710 : (Jvm.Cond.methodLink "ChantRules$Command" (78 : Nat) ({ cls := "ChantRules$Choir", name := "drops", desc := "(II)I" } : Jvm.MethodName)) ∈ lw_all := lw_g (lw_at lw_m7 195 rfl) rfl
theorem q1711 : (Jvm.Cond.methodLink "ChantRules$Command" (81 : Nat) ({ cls := "ChantRules$Choir", name := "turns", desc := "(I)I" } : Jvm.MethodName)) ∈ lw_all := lw_g (lw_at lw_m7 196 rfl) rfl
theorem q2383 : (Jvm.Cond.castable "ChantRules$Command" "java/lang/Object") ∈ lw_tbl := lw_at lw_m10 148 rfl
theorem in_X14 : ∀ w ∈ wsX140, w ∈ lw_all := lw_in wsX140 [1601, 1603, 1605, 1607, 1609, 1611, 1613] (by decide +kernel) (by decide +kernel)
/-! ChantRules$Sound$1 -/
set_option maxRecDepth 100000
def RX15 : String := "ChantRules$Sound$1"
abbrev cX15_sign : ByteArray := prog_14_method_2_code
def yX15_sign : MethodName := ⟨RX15, "sign", "()C"⟩
theorem dX15_sign_0 : decode cX15_sign 0 = .ok (.bipush 45, 2) := by decide +kernel
theorem dX15_sign_2 : decode cX15_sign 2 = .ok (.ireturn, 1) := by decide +kernel
theorem q278 : (Jvm.Cond.selects "ChantRules$Sound$1" ({ cls := "ChantRules$Sound", name := "ordinal", desc := "()I" } : Jvm.MethodName) ({ cls := "java/lang/Enum", name := "ordinal", desc := "()I" } : Jvm.MethodName)) ∈ lw_all := lw_g (lw_at lw_m1 203 rfl) rfl
theorem q446 : (Jvm.Cond.selects "ChantRules$Sound$1" ({ cls := "java/lang/Object", name := "getClass", desc := "()Ljava/lang/Class;" } : Jvm.MethodName) ({ cls := "java/lang/Object", name := "getClass", desc := "()Ljava/lang/Class;" } : Jvm.MethodName)) ∈ lw_all := lw_g (lw_at lw_m2 131 rfl) rfl
theorem q1123 : (Jvm.Cond.selects "ChantRules$Sound$1" ({ cls := "ChantRules$Sound", name := "sign", desc := "()C" } : Jvm.MethodName) ({ cls := "ChantRules$Sound$1", name := "sign", desc := "()C" } : Jvm.MethodName)) ∈ lw_all := lw_g (lw_at lw_m5 88 rfl) rfl
theorem q1124 : (Jvm.Cond.instanceMethod ({ cls := "ChantRules$Sound$1", name := "sign", desc := "()C" } : Jvm.MethodName)) ∈ lw_all := lw_g (lw_at lw_m5 89 rfl) rfl
theorem q1125 : (Jvm.Cond.code ({ cls := "ChantRules$Sound$1", name := "sign", desc := "()C" } : Jvm.MethodName) prog_14_method_2_code (1 : Nat) (Option.some Jvm.ClassFile.FieldType.char)) ∈ lw_all := lw_g (lw_at lw_m5 90 rfl) rfl
theorem q2371 : (Jvm.Cond.castable "ChantRules$Sound$1" "java/lang/Object") ∈ lw_tbl := lw_at lw_m10 136 rfl
theorem q2386 : (Jvm.Cond.castable "ChantRules$Sound$1" "ChantRules$Sound") ∈ lw_tbl := lw_at lw_m10 151 rfl
