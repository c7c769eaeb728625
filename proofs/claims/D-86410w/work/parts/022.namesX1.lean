/-! RoundingAuditor -/
set_option maxRecDepth 100000
def RX1 : String := "RoundingAuditor"
def TX1 : u_T := fun k => match k with
  | 0 => ("RoundingAuditor", "ledgers", "[LRoundingAuditor$Ledger;", true)
  | 1 => ("RoundingAuditor", "one", "LRoundingAuditor$Exact;", true)
  | 2 => ("RoundingAuditor", "two", "LRoundingAuditor$Exact;", true)
  | 3 => ("RoundingAuditor", "three", "LRoundingAuditor$Exact;", true)
  | 4 => ("RoundingAuditor", "runs", "Ljava/util/List;", true)
  | 5 => ("RoundingAuditor", "cure", "I", false)
  | _ => ("RoundingAuditor", "shares", "[I", true)
def tyX1 : Nat → FieldType := fun k => match k with
  | 0 => .array (.object "RoundingAuditor$Ledger")
  | 1 => .object "RoundingAuditor$Exact"
  | 2 => .object "RoundingAuditor$Exact"
  | 3 => .object "RoundingAuditor$Exact"
  | 4 => .object "java/util/List"
  | 5 => .int
  | _ => .array .int
abbrev wsX10 : List Cond := u_ws RX1 TX1 7
theorem nmX1 : ∀ a, a < 7 → ∀ b, b < 7 → a ≠ b → (TX1 a).2.1 ≠ (TX1 b).2.1 := by decide +kernel
theorem tyX1_ok : ∀ k, k < 7 → parseFieldDescriptor (TX1 k).2.2.1 = some (tyX1 k) := by decide +kernel
abbrev cX1_init : ByteArray := prog_1_method_1_code
def yX1_init : MethodName := ⟨RX1, "<init>", "()V"⟩
def dkwX1_init_2 : List UInt8 := [187, 0, 28, 89, 183, 0, 30, 181, 0, 31, 42, 16, 10, 188, 10, 181, 0, 35, 177]
abbrev dktX1_init_2 : List UInt8 := dkwX1_init_2 ++ []
def dkwX1_init_1 : List UInt8 := [42, 187, 0, 15, 89, 183, 0, 17, 181, 0, 22, 42, 187, 0, 15, 89, 183, 0, 17, 181, 0, 25, 42]
abbrev dktX1_init_1 : List UInt8 := dkwX1_init_1 ++ dktX1_init_2
def dkwX1_init_0 : List UInt8 := [42, 183, 0, 1, 42, 16, 12, 189, 0, 9, 181, 0, 11, 42, 187, 0, 15, 89, 183, 0, 17, 181, 0, 18]
abbrev dktX1_init_0 : List UInt8 := dkwX1_init_0 ++ dktX1_init_1
theorem dksX1_init_0 : cX1_init.data.toList.drop 0 = dktX1_init_0 := by decide +kernel
theorem dksX1_init_1 : cX1_init.data.toList.drop 24 = dktX1_init_1 := dk_seg dksX1_init_0 24 rfl rfl
theorem dksX1_init_2 : cX1_init.data.toList.drop 47 = dktX1_init_2 := dk_seg dksX1_init_1 23 rfl rfl
theorem dX1_init_0 : decode cX1_init 0 = .ok (.aload_n 0, 1) := dk_42 (dk_at dksX1_init_0 0 rfl rfl)
theorem dX1_init_1 : decode cX1_init 1 = .ok (.invokespecial 1, 3) := dk_183 0 1 (dk_at dksX1_init_0 1 rfl rfl)
theorem dX1_init_4 : decode cX1_init 4 = .ok (.aload_n 0, 1) := dk_42 (dk_at dksX1_init_0 4 rfl rfl)
theorem dX1_init_5 : decode cX1_init 5 = .ok (.bipush 12, 2) := dk_16 12 (dk_at dksX1_init_0 5 rfl rfl)
theorem dX1_init_7 : decode cX1_init 7 = .ok (.anewarray 9, 3) := dk_189 0 9 (dk_at dksX1_init_0 7 rfl rfl)
theorem dX1_init_10 : decode cX1_init 10 = .ok (.putfield 11, 3) := dk_181 0 11 (dk_at dksX1_init_0 10 rfl rfl)
theorem dX1_init_13 : decode cX1_init 13 = .ok (.aload_n 0, 1) := dk_42 (dk_at dksX1_init_0 13 rfl rfl)
theorem dX1_init_14 : decode cX1_init 14 = .ok (.new 15, 3) := dk_187 0 15 (dk_at dksX1_init_0 14 rfl rfl)
theorem dX1_init_17 : decode cX1_init 17 = .ok (.dup, 1) := dk_89 (dk_at dksX1_init_0 17 rfl rfl)
theorem dX1_init_18 : decode cX1_init 18 = .ok (.invokespecial 17, 3) := dk_183 0 17 (dk_at dksX1_init_0 18 rfl rfl)
theorem dX1_init_21 : decode cX1_init 21 = .ok (.putfield 18, 3) := dk_181 0 18 (dk_at dksX1_init_0 21 rfl rfl)
theorem dX1_init_24 : decode cX1_init 24 = .ok (.aload_n 0, 1) := dk_42 (dk_at dksX1_init_1 0 rfl rfl)
theorem dX1_init_25 : decode cX1_init 25 = .ok (.new 15, 3) := dk_187 0 15 (dk_at dksX1_init_1 1 rfl rfl)
theorem dX1_init_28 : decode cX1_init 28 = .ok (.dup, 1) := dk_89 (dk_at dksX1_init_1 4 rfl rfl)
theorem dX1_init_29 : decode cX1_init 29 = .ok (.invokespecial 17, 3) := dk_183 0 17 (dk_at dksX1_init_1 5 rfl rfl)
theorem dX1_init_32 : decode cX1_init 32 = .ok (.putfield 22, 3) := dk_181 0 22 (dk_at dksX1_init_1 8 rfl rfl)
theorem dX1_init_35 : decode cX1_init 35 = .ok (.aload_n 0, 1) := dk_42 (dk_at dksX1_init_1 11 rfl rfl)
theorem dX1_init_36 : decode cX1_init 36 = .ok (.new 15, 3) := dk_187 0 15 (dk_at dksX1_init_1 12 rfl rfl)
theorem dX1_init_39 : decode cX1_init 39 = .ok (.dup, 1) := dk_89 (dk_at dksX1_init_1 15 rfl rfl)
theorem dX1_init_40 : decode cX1_init 40 = .ok (.invokespecial 17, 3) := dk_183 0 17 (dk_at dksX1_init_1 16 rfl rfl)
theorem dX1_init_43 : decode cX1_init 43 = .ok (.putfield 25, 3) := dk_181 0 25 (dk_at dksX1_init_1 19 rfl rfl)
theorem dX1_init_46 : decode cX1_init 46 = .ok (.aload_n 0, 1) := dk_42 (dk_at dksX1_init_1 22 rfl rfl)
theorem dX1_init_47 : decode cX1_init 47 = .ok (.new 28, 3) := dk_187 0 28 (dk_at dksX1_init_2 0 rfl rfl)
theorem dX1_init_50 : decode cX1_init 50 = .ok (.dup, 1) := dk_89 (dk_at dksX1_init_2 3 rfl rfl)
theorem dX1_init_51 : decode cX1_init 51 = .ok (.invokespecial 30, 3) := dk_183 0 30 (dk_at dksX1_init_2 4 rfl rfl)
theorem dX1_init_54 : decode cX1_init 54 = .ok (.putfield 31, 3) := dk_181 0 31 (dk_at dksX1_init_2 7 rfl rfl)
theorem dX1_init_57 : decode cX1_init 57 = .ok (.aload_n 0, 1) := dk_42 (dk_at dksX1_init_2 10 rfl rfl)
theorem dX1_init_58 : decode cX1_init 58 = .ok (.bipush 10, 2) := dk_16 10 (dk_at dksX1_init_2 11 rfl rfl)
theorem dX1_init_60 : decode cX1_init 60 = .ok (.newarray .int, 2) := dk_188_10 (dk_at dksX1_init_2 13 rfl rfl)
theorem dX1_init_62 : decode cX1_init 62 = .ok (.putfield 35, 3) := dk_181 0 35 (dk_at dksX1_init_2 15 rfl rfl)
theorem dX1_init_65 : decode cX1_init 65 = .ok (.return_, 1) := dk_177 (dk_at dksX1_init_2 18 rfl rfl)
abbrev cX1_total : ByteArray := prog_1_method_24_code
def yX1_total : MethodName := ⟨RX1, "total", "(I)J"⟩
def dkwX1_total_2 : List UInt8 := [173]
abbrev dktX1_total_2 : List UInt8 := dkwX1_total_2 ++ []
def dkwX1_total_1 : List UInt8 := [180, 0, 31, 27, 185, 1, 5, 2, 0, 192, 0, 228, 180, 0, 247, 182, 1, 13, 167, 0, 6, 20, 1, 14]
abbrev dktX1_total_1 : List UInt8 := dkwX1_total_1 ++ dktX1_total_2
def dkwX1_total_0 : List UInt8 := [42, 27, 182, 1, 2, 153, 0, 38, 42, 180, 0, 31, 27, 185, 1, 5, 2, 0, 192, 0, 228, 42]
abbrev dktX1_total_0 : List UInt8 := dkwX1_total_0 ++ dktX1_total_1
theorem dksX1_total_0 : cX1_total.data.toList.drop 0 = dktX1_total_0 := by decide +kernel
theorem dksX1_total_1 : cX1_total.data.toList.drop 22 = dktX1_total_1 := dk_seg dksX1_total_0 22 rfl rfl
theorem dksX1_total_2 : cX1_total.data.toList.drop 46 = dktX1_total_2 := dk_seg dksX1_total_1 24 rfl rfl
theorem dX1_total_0 : decode cX1_total 0 = .ok (.aload_n 0, 1) := dk_42 (dk_at dksX1_total_0 0 rfl rfl)
theorem dX1_total_1 : decode cX1_total 1 = .ok (.iload_n 1, 1) := dk_27 (dk_at dksX1_total_0 1 rfl rfl)
theorem dX1_total_2 : decode cX1_total 2 = .ok (.invokevirtual 258, 3) := dk_182 1 2 (dk_at dksX1_total_0 2 rfl rfl)
theorem dX1_total_5 : decode cX1_total 5 = .ok (.ifCond .eq 38, 3) := dk_153 0 38 (dk_at dksX1_total_0 5 rfl rfl)
theorem dX1_total_8 : decode cX1_total 8 = .ok (.aload_n 0, 1) := dk_42 (dk_at dksX1_total_0 8 rfl rfl)
theorem dX1_total_9 : decode cX1_total 9 = .ok (.getfield 31, 3) := dk_180 0 31 (dk_at dksX1_total_0 9 rfl rfl)
theorem dX1_total_12 : decode cX1_total 12 = .ok (.iload_n 1, 1) := dk_27 (dk_at dksX1_total_0 12 rfl rfl)
theorem dX1_total_13 : decode cX1_total 13 = .ok (.invokeinterface 261 2, 5) := by decide +kernel
theorem dX1_total_18 : decode cX1_total 18 = .ok (.checkcast 228, 3) := dk_192 0 228 (dk_at dksX1_total_0 18 rfl rfl)
theorem dX1_total_21 : decode cX1_total 21 = .ok (.aload_n 0, 1) := dk_42 (dk_at dksX1_total_0 21 rfl rfl)
theorem dX1_total_22 : decode cX1_total 22 = .ok (.getfield 31, 3) := dk_180 0 31 (dk_at dksX1_total_1 0 rfl rfl)
theorem dX1_total_25 : decode cX1_total 25 = .ok (.iload_n 1, 1) := dk_27 (dk_at dksX1_total_1 3 rfl rfl)
theorem dX1_total_26 : decode cX1_total 26 = .ok (.invokeinterface 261 2, 5) := by decide +kernel
theorem dX1_total_31 : decode cX1_total 31 = .ok (.checkcast 228, 3) := dk_192 0 228 (dk_at dksX1_total_1 9 rfl rfl)
theorem dX1_total_34 : decode cX1_total 34 = .ok (.getfield 247, 3) := dk_180 0 247 (dk_at dksX1_total_1 12 rfl rfl)
theorem dX1_total_37 : decode cX1_total 37 = .ok (.invokevirtual 269, 3) := dk_182 1 13 (dk_at dksX1_total_1 15 rfl rfl)
theorem dX1_total_40 : decode cX1_total 40 = .ok (.goto 6, 3) := dk_167 0 6 (dk_at dksX1_total_1 18 rfl rfl)
theorem dX1_total_43 : decode cX1_total 43 = .ok (.ldc2_w 270, 3) := dk_20 1 14 (dk_at dksX1_total_1 21 rfl rfl)
theorem dX1_total_46 : decode cX1_total 46 = .ok (.lreturn, 1) := dk_173 (dk_at dksX1_total_2 0 rfl rfl)
abbrev cX1_isRun : ByteArray := prog_1_method_22_code
def yX1_isRun : MethodName := ⟨RX1, "isRun", "(I)Z"⟩
def dkwX1_isRun_0 : List UInt8 := [27, 133, 9, 42, 180, 0, 31, 185, 0, 250, 1, 0, 4, 100, 133, 184, 0, 57, 172]
abbrev dktX1_isRun_0 : List UInt8 := dkwX1_isRun_0 ++ []
theorem dksX1_isRun_0 : cX1_isRun.data.toList.drop 0 = dktX1_isRun_0 := by decide +kernel
theorem dX1_isRun_0 : decode cX1_isRun 0 = .ok (.iload_n 1, 1) := dk_27 (dk_at dksX1_isRun_0 0 rfl rfl)
theorem dX1_isRun_1 : decode cX1_isRun 1 = .ok (.i2l, 1) := dk_133 (dk_at dksX1_isRun_0 1 rfl rfl)
theorem dX1_isRun_2 : decode cX1_isRun 2 = .ok (.lconst 0, 1) := dk_9 (dk_at dksX1_isRun_0 2 rfl rfl)
theorem dX1_isRun_3 : decode cX1_isRun 3 = .ok (.aload_n 0, 1) := dk_42 (dk_at dksX1_isRun_0 3 rfl rfl)
theorem dX1_isRun_4 : decode cX1_isRun 4 = .ok (.getfield 31, 3) := dk_180 0 31 (dk_at dksX1_isRun_0 4 rfl rfl)
theorem dX1_isRun_7 : decode cX1_isRun 7 = .ok (.invokeinterface 250 1, 5) := by decide +kernel
theorem dX1_isRun_12 : decode cX1_isRun 12 = .ok (.iconst 1, 1) := dk_4 (dk_at dksX1_isRun_0 12 rfl rfl)
theorem dX1_isRun_13 : decode cX1_isRun 13 = .ok (.isub, 1) := dk_100 (dk_at dksX1_isRun_0 13 rfl rfl)
theorem dX1_isRun_14 : decode cX1_isRun 14 = .ok (.i2l, 1) := dk_133 (dk_at dksX1_isRun_0 14 rfl rfl)
theorem dX1_isRun_15 : decode cX1_isRun 15 = .ok (.invokestatic 57, 3) := dk_184 0 57 (dk_at dksX1_isRun_0 15 rfl rfl)
theorem dX1_isRun_18 : decode cX1_isRun 18 = .ok (.ireturn, 1) := dk_172 (dk_at dksX1_isRun_0 18 rfl rfl)
abbrev cX1_isIn : ByteArray := prog_1_method_2_code
def yX1_isIn : MethodName := ⟨RX1, "isIn", "(JJJ)Z"⟩
def dkwX1_isIn_0 : List UInt8 := [30, 32, 148, 155, 0, 14, 30, 22, 4, 148, 157, 0, 7, 4, 167, 0, 4, 3, 172]
abbrev dktX1_isIn_0 : List UInt8 := dkwX1_isIn_0 ++ []
theorem dksX1_isIn_0 : cX1_isIn.data.toList.drop 0 = dktX1_isIn_0 := by decide +kernel
theorem dX1_isIn_0 : decode cX1_isIn 0 = .ok (.lload_n 0, 1) := dk_30 (dk_at dksX1_isIn_0 0 rfl rfl)
theorem dX1_isIn_1 : decode cX1_isIn 1 = .ok (.lload_n 2, 1) := dk_32 (dk_at dksX1_isIn_0 1 rfl rfl)
theorem dX1_isIn_2 : decode cX1_isIn 2 = .ok (.lcmp, 1) := dk_148 (dk_at dksX1_isIn_0 2 rfl rfl)
theorem dX1_isIn_3 : decode cX1_isIn 3 = .ok (.ifCond .lt 14, 3) := dk_155 0 14 (dk_at dksX1_isIn_0 3 rfl rfl)
theorem dX1_isIn_6 : decode cX1_isIn 6 = .ok (.lload_n 0, 1) := dk_30 (dk_at dksX1_isIn_0 6 rfl rfl)
theorem dX1_isIn_7 : decode cX1_isIn 7 = .ok (.lload 4, 2) := dk_22 4 (dk_at dksX1_isIn_0 7 rfl rfl)
theorem dX1_isIn_9 : decode cX1_isIn 9 = .ok (.lcmp, 1) := dk_148 (dk_at dksX1_isIn_0 9 rfl rfl)
theorem dX1_isIn_10 : decode cX1_isIn 10 = .ok (.ifCond .gt 7, 3) := dk_157 0 7 (dk_at dksX1_isIn_0 10 rfl rfl)
theorem dX1_isIn_13 : decode cX1_isIn 13 = .ok (.iconst 1, 1) := dk_4 (dk_at dksX1_isIn_0 13 rfl rfl)
theorem dX1_isIn_14 : decode cX1_isIn 14 = .ok (.goto 4, 3) := dk_167 0 4 (dk_at dksX1_isIn_0 14 rfl rfl)
theorem dX1_isIn_17 : decode cX1_isIn 17 = .ok (.iconst 0, 1) := dk_3 (dk_at dksX1_isIn_0 17 rfl rfl)
theorem dX1_isIn_18 : decode cX1_isIn 18 = .ok (.ireturn, 1) := dk_172 (dk_at dksX1_isIn_0 18 rfl rfl)
abbrev cX1_steps : ByteArray := prog_1_method_25_code
def yX1_steps : MethodName := ⟨RX1, "steps", "(I)I"⟩
def dkwX1_steps_1 : List UInt8 := [167, 0, 5, 16, 155, 172]
abbrev dktX1_steps_1 : List UInt8 := dkwX1_steps_1 ++ []
def dkwX1_steps_0 : List UInt8 := [42, 27, 182, 1, 2, 153, 0, 22, 42, 180, 0, 31, 27, 185, 1, 5, 2, 0, 192, 0, 228, 180, 1, 9]
abbrev dktX1_steps_0 : List UInt8 := dkwX1_steps_0 ++ dktX1_steps_1
theorem dksX1_steps_0 : cX1_steps.data.toList.drop 0 = dktX1_steps_0 := by decide +kernel
theorem dksX1_steps_1 : cX1_steps.data.toList.drop 24 = dktX1_steps_1 := dk_seg dksX1_steps_0 24 rfl rfl
theorem dX1_steps_0 : decode cX1_steps 0 = .ok (.aload_n 0, 1) := dk_42 (dk_at dksX1_steps_0 0 rfl rfl)
theorem dX1_steps_1 : decode cX1_steps 1 = .ok (.iload_n 1, 1) := dk_27 (dk_at dksX1_steps_0 1 rfl rfl)
theorem dX1_steps_2 : decode cX1_steps 2 = .ok (.invokevirtual 258, 3) := dk_182 1 2 (dk_at dksX1_steps_0 2 rfl rfl)
theorem dX1_steps_5 : decode cX1_steps 5 = .ok (.ifCond .eq 22, 3) := dk_153 0 22 (dk_at dksX1_steps_0 5 rfl rfl)
theorem dX1_steps_8 : decode cX1_steps 8 = .ok (.aload_n 0, 1) := dk_42 (dk_at dksX1_steps_0 8 rfl rfl)
theorem dX1_steps_9 : decode cX1_steps 9 = .ok (.getfield 31, 3) := dk_180 0 31 (dk_at dksX1_steps_0 9 rfl rfl)
theorem dX1_steps_12 : decode cX1_steps 12 = .ok (.iload_n 1, 1) := dk_27 (dk_at dksX1_steps_0 12 rfl rfl)
theorem dX1_steps_13 : decode cX1_steps 13 = .ok (.invokeinterface 261 2, 5) := by decide +kernel
theorem dX1_steps_18 : decode cX1_steps 18 = .ok (.checkcast 228, 3) := dk_192 0 228 (dk_at dksX1_steps_0 18 rfl rfl)
theorem dX1_steps_21 : decode cX1_steps 21 = .ok (.getfield 265, 3) := dk_180 1 9 (dk_at dksX1_steps_0 21 rfl rfl)
theorem dX1_steps_24 : decode cX1_steps 24 = .ok (.goto 5, 3) := dk_167 0 5 (dk_at dksX1_steps_1 0 rfl rfl)
theorem dX1_steps_27 : decode cX1_steps 27 = .ok (.bipush (-101), 2) := dk_16 155 (dk_at dksX1_steps_1 3 rfl rfl)
theorem dX1_steps_29 : decode cX1_steps 29 = .ok (.ireturn, 1) := dk_172 (dk_at dksX1_steps_1 5 rfl rfl)
abbrev cX1_step : ByteArray := prog_1_method_27_code
def yX1_step : MethodName := ⟨RX1, "step", "(III)J"⟩
def dkwX1_step_6 : List UInt8 := [184, 1, 39, 173]
abbrev dktX1_step_6 : List UInt8 := dkwX1_step_6 ++ []
def dkwX1_step_5 : List UInt8 := [24, 5, 184, 1, 39, 173, 42, 180, 0, 18, 24, 5, 4, 182, 0, 151, 42, 180, 0, 18, 182, 1, 36]
abbrev dktX1_step_5 : List UInt8 := dkwX1_step_5 ++ dktX1_step_6
def dkwX1_step_4 : List UInt8 := [180, 0, 18, 25, 4, 28, 182, 1, 32, 42, 180, 0, 18, 182, 1, 36, 57, 5, 29, 6, 160, 0, 9]
abbrev dktX1_step_4 : List UInt8 := dkwX1_step_4 ++ dktX1_step_5
def dkwX1_step_3 : List UInt8 := [25, 4, 180, 1, 20, 28, 49, 167, 0, 10, 25, 4, 180, 1, 23, 28, 49, 182, 1, 13, 173, 42, 42]
abbrev dktX1_step_3 : List UInt8 := dkwX1_step_3 ++ dktX1_step_4
def dkwX1_step_2 : List UInt8 := [162, 0, 45, 25, 4, 29, 154, 0, 13, 25, 4, 180, 1, 16, 28, 49, 167, 0, 25, 29, 4, 160, 0, 13]
abbrev dktX1_step_2 : List UInt8 := dkwX1_step_2 ++ dktX1_step_3
def dkwX1_step_1 : List UInt8 := [154, 0, 7, 20, 0, 133, 173, 42, 180, 0, 31, 27, 185, 1, 5, 2, 0, 192, 0, 228, 58, 4, 29, 6]
abbrev dktX1_step_1 : List UInt8 := dkwX1_step_1 ++ dktX1_step_2
def dkwX1_step_0 : List UInt8 := [42, 27, 28, 182, 1, 26, 154, 0, 7, 20, 1, 14, 173, 29, 133, 9, 20, 1, 30, 184, 0, 57]
abbrev dktX1_step_0 : List UInt8 := dkwX1_step_0 ++ dktX1_step_1
theorem dksX1_step_0 : cX1_step.data.toList.drop 0 = dktX1_step_0 := by decide +kernel
theorem dksX1_step_1 : cX1_step.data.toList.drop 22 = dktX1_step_1 := dk_seg dksX1_step_0 22 rfl rfl
theorem dksX1_step_2 : cX1_step.data.toList.drop 46 = dktX1_step_2 := dk_seg dksX1_step_1 24 rfl rfl
theorem dksX1_step_3 : cX1_step.data.toList.drop 70 = dktX1_step_3 := dk_seg dksX1_step_2 24 rfl rfl
theorem dksX1_step_4 : cX1_step.data.toList.drop 93 = dktX1_step_4 := dk_seg dksX1_step_3 23 rfl rfl
theorem dksX1_step_5 : cX1_step.data.toList.drop 116 = dktX1_step_5 := dk_seg dksX1_step_4 23 rfl rfl
theorem dksX1_step_6 : cX1_step.data.toList.drop 139 = dktX1_step_6 := dk_seg dksX1_step_5 23 rfl rfl
theorem dX1_step_0 : decode cX1_step 0 = .ok (.aload_n 0, 1) := dk_42 (dk_at dksX1_step_0 0 rfl rfl)
theorem dX1_step_1 : decode cX1_step 1 = .ok (.iload_n 1, 1) := dk_27 (dk_at dksX1_step_0 1 rfl rfl)
theorem dX1_step_2 : decode cX1_step 2 = .ok (.iload_n 2, 1) := dk_28 (dk_at dksX1_step_0 2 rfl rfl)
theorem dX1_step_3 : decode cX1_step 3 = .ok (.invokevirtual 282, 3) := dk_182 1 26 (dk_at dksX1_step_0 3 rfl rfl)
theorem dX1_step_6 : decode cX1_step 6 = .ok (.ifCond .ne 7, 3) := dk_154 0 7 (dk_at dksX1_step_0 6 rfl rfl)
theorem dX1_step_9 : decode cX1_step 9 = .ok (.ldc2_w 270, 3) := dk_20 1 14 (dk_at dksX1_step_0 9 rfl rfl)
theorem dX1_step_12 : decode cX1_step 12 = .ok (.lreturn, 1) := dk_173 (dk_at dksX1_step_0 12 rfl rfl)
theorem dX1_step_13 : decode cX1_step 13 = .ok (.iload_n 3, 1) := dk_29 (dk_at dksX1_step_0 13 rfl rfl)
theorem dX1_step_14 : decode cX1_step 14 = .ok (.i2l, 1) := dk_133 (dk_at dksX1_step_0 14 rfl rfl)
theorem dX1_step_15 : decode cX1_step 15 = .ok (.lconst 0, 1) := dk_9 (dk_at dksX1_step_0 15 rfl rfl)
theorem dX1_step_16 : decode cX1_step 16 = .ok (.ldc2_w 286, 3) := dk_20 1 30 (dk_at dksX1_step_0 16 rfl rfl)
theorem dX1_step_19 : decode cX1_step 19 = .ok (.invokestatic 57, 3) := dk_184 0 57 (dk_at dksX1_step_0 19 rfl rfl)
theorem dX1_step_22 : decode cX1_step 22 = .ok (.ifCond .ne 7, 3) := dk_154 0 7 (dk_at dksX1_step_1 0 rfl rfl)
theorem dX1_step_25 : decode cX1_step 25 = .ok (.ldc2_w 133, 3) := dk_20 0 133 (dk_at dksX1_step_1 3 rfl rfl)
theorem dX1_step_28 : decode cX1_step 28 = .ok (.lreturn, 1) := dk_173 (dk_at dksX1_step_1 6 rfl rfl)
theorem dX1_step_29 : decode cX1_step 29 = .ok (.aload_n 0, 1) := dk_42 (dk_at dksX1_step_1 7 rfl rfl)
theorem dX1_step_30 : decode cX1_step 30 = .ok (.getfield 31, 3) := dk_180 0 31 (dk_at dksX1_step_1 8 rfl rfl)
theorem dX1_step_33 : decode cX1_step 33 = .ok (.iload_n 1, 1) := dk_27 (dk_at dksX1_step_1 11 rfl rfl)
theorem dX1_step_34 : decode cX1_step 34 = .ok (.invokeinterface 261 2, 5) := by decide +kernel
theorem dX1_step_39 : decode cX1_step 39 = .ok (.checkcast 228, 3) := dk_192 0 228 (dk_at dksX1_step_1 17 rfl rfl)
theorem dX1_step_42 : decode cX1_step 42 = .ok (.astore 4, 2) := dk_58 4 (dk_at dksX1_step_1 20 rfl rfl)
theorem dX1_step_44 : decode cX1_step 44 = .ok (.iload_n 3, 1) := dk_29 (dk_at dksX1_step_1 22 rfl rfl)
theorem dX1_step_45 : decode cX1_step 45 = .ok (.iconst 3, 1) := dk_6 (dk_at dksX1_step_1 23 rfl rfl)
theorem dX1_step_46 : decode cX1_step 46 = .ok (.if_icmp .ge 45, 3) := dk_162 0 45 (dk_at dksX1_step_2 0 rfl rfl)
theorem dX1_step_49 : decode cX1_step 49 = .ok (.aload 4, 2) := dk_25 4 (dk_at dksX1_step_2 3 rfl rfl)
theorem dX1_step_51 : decode cX1_step 51 = .ok (.iload_n 3, 1) := dk_29 (dk_at dksX1_step_2 5 rfl rfl)
theorem dX1_step_52 : decode cX1_step 52 = .ok (.ifCond .ne 13, 3) := dk_154 0 13 (dk_at dksX1_step_2 6 rfl rfl)
theorem dX1_step_55 : decode cX1_step 55 = .ok (.aload 4, 2) := dk_25 4 (dk_at dksX1_step_2 9 rfl rfl)
theorem dX1_step_57 : decode cX1_step 57 = .ok (.getfield 272, 3) := dk_180 1 16 (dk_at dksX1_step_2 11 rfl rfl)
theorem dX1_step_60 : decode cX1_step 60 = .ok (.iload_n 2, 1) := dk_28 (dk_at dksX1_step_2 14 rfl rfl)
theorem dX1_step_61 : decode cX1_step 61 = .ok (.daload, 1) := dk_49 (dk_at dksX1_step_2 15 rfl rfl)
theorem dX1_step_62 : decode cX1_step 62 = .ok (.goto 25, 3) := dk_167 0 25 (dk_at dksX1_step_2 16 rfl rfl)
theorem dX1_step_65 : decode cX1_step 65 = .ok (.iload_n 3, 1) := dk_29 (dk_at dksX1_step_2 19 rfl rfl)
theorem dX1_step_66 : decode cX1_step 66 = .ok (.iconst 1, 1) := dk_4 (dk_at dksX1_step_2 20 rfl rfl)
theorem dX1_step_67 : decode cX1_step 67 = .ok (.if_icmp .ne 13, 3) := dk_160 0 13 (dk_at dksX1_step_2 21 rfl rfl)
theorem dX1_step_70 : decode cX1_step 70 = .ok (.aload 4, 2) := dk_25 4 (dk_at dksX1_step_3 0 rfl rfl)
theorem dX1_step_72 : decode cX1_step 72 = .ok (.getfield 276, 3) := dk_180 1 20 (dk_at dksX1_step_3 2 rfl rfl)
theorem dX1_step_75 : decode cX1_step 75 = .ok (.iload_n 2, 1) := dk_28 (dk_at dksX1_step_3 5 rfl rfl)
theorem dX1_step_76 : decode cX1_step 76 = .ok (.daload, 1) := dk_49 (dk_at dksX1_step_3 6 rfl rfl)
theorem dX1_step_77 : decode cX1_step 77 = .ok (.goto 10, 3) := dk_167 0 10 (dk_at dksX1_step_3 7 rfl rfl)
theorem dX1_step_80 : decode cX1_step 80 = .ok (.aload 4, 2) := dk_25 4 (dk_at dksX1_step_3 10 rfl rfl)
theorem dX1_step_82 : decode cX1_step 82 = .ok (.getfield 279, 3) := dk_180 1 23 (dk_at dksX1_step_3 12 rfl rfl)
theorem dX1_step_85 : decode cX1_step 85 = .ok (.iload_n 2, 1) := dk_28 (dk_at dksX1_step_3 15 rfl rfl)
theorem dX1_step_86 : decode cX1_step 86 = .ok (.daload, 1) := dk_49 (dk_at dksX1_step_3 16 rfl rfl)
theorem dX1_step_87 : decode cX1_step 87 = .ok (.invokevirtual 269, 3) := dk_182 1 13 (dk_at dksX1_step_3 17 rfl rfl)
theorem dX1_step_90 : decode cX1_step 90 = .ok (.lreturn, 1) := dk_173 (dk_at dksX1_step_3 20 rfl rfl)
theorem dX1_step_91 : decode cX1_step 91 = .ok (.aload_n 0, 1) := dk_42 (dk_at dksX1_step_3 21 rfl rfl)
theorem dX1_step_92 : decode cX1_step 92 = .ok (.aload_n 0, 1) := dk_42 (dk_at dksX1_step_3 22 rfl rfl)
theorem dX1_step_93 : decode cX1_step 93 = .ok (.getfield 18, 3) := dk_180 0 18 (dk_at dksX1_step_4 0 rfl rfl)
theorem dX1_step_96 : decode cX1_step 96 = .ok (.aload 4, 2) := dk_25 4 (dk_at dksX1_step_4 3 rfl rfl)
theorem dX1_step_98 : decode cX1_step 98 = .ok (.iload_n 2, 1) := dk_28 (dk_at dksX1_step_4 5 rfl rfl)
theorem dX1_step_99 : decode cX1_step 99 = .ok (.invokevirtual 288, 3) := dk_182 1 32 (dk_at dksX1_step_4 6 rfl rfl)
theorem dX1_step_102 : decode cX1_step 102 = .ok (.aload_n 0, 1) := dk_42 (dk_at dksX1_step_4 9 rfl rfl)
theorem dX1_step_103 : decode cX1_step 103 = .ok (.getfield 18, 3) := dk_180 0 18 (dk_at dksX1_step_4 10 rfl rfl)
theorem dX1_step_106 : decode cX1_step 106 = .ok (.invokevirtual 292, 3) := dk_182 1 36 (dk_at dksX1_step_4 13 rfl rfl)
theorem dX1_step_109 : decode cX1_step 109 = .ok (.dstore 5, 2) := dk_57 5 (dk_at dksX1_step_4 16 rfl rfl)
theorem dX1_step_111 : decode cX1_step 111 = .ok (.iload_n 3, 1) := dk_29 (dk_at dksX1_step_4 18 rfl rfl)
theorem dX1_step_112 : decode cX1_step 112 = .ok (.iconst 3, 1) := dk_6 (dk_at dksX1_step_4 19 rfl rfl)
theorem dX1_step_113 : decode cX1_step 113 = .ok (.if_icmp .ne 9, 3) := dk_160 0 9 (dk_at dksX1_step_4 20 rfl rfl)
theorem dX1_step_116 : decode cX1_step 116 = .ok (.dload 5, 2) := dk_24 5 (dk_at dksX1_step_5 0 rfl rfl)
theorem dX1_step_118 : decode cX1_step 118 = .ok (.invokestatic 295, 3) := dk_184 1 39 (dk_at dksX1_step_5 2 rfl rfl)
theorem dX1_step_121 : decode cX1_step 121 = .ok (.lreturn, 1) := dk_173 (dk_at dksX1_step_5 5 rfl rfl)
theorem dX1_step_122 : decode cX1_step 122 = .ok (.aload_n 0, 1) := dk_42 (dk_at dksX1_step_5 6 rfl rfl)
theorem dX1_step_123 : decode cX1_step 123 = .ok (.getfield 18, 3) := dk_180 0 18 (dk_at dksX1_step_5 7 rfl rfl)
theorem dX1_step_126 : decode cX1_step 126 = .ok (.dload 5, 2) := dk_24 5 (dk_at dksX1_step_5 10 rfl rfl)
theorem dX1_step_128 : decode cX1_step 128 = .ok (.iconst 1, 1) := dk_4 (dk_at dksX1_step_5 12 rfl rfl)
theorem dX1_step_129 : decode cX1_step 129 = .ok (.invokevirtual 151, 3) := dk_182 0 151 (dk_at dksX1_step_5 13 rfl rfl)
theorem dX1_step_132 : decode cX1_step 132 = .ok (.aload_n 0, 1) := dk_42 (dk_at dksX1_step_5 16 rfl rfl)
theorem dX1_step_133 : decode cX1_step 133 = .ok (.getfield 18, 3) := dk_180 0 18 (dk_at dksX1_step_5 17 rfl rfl)
theorem dX1_step_136 : decode cX1_step 136 = .ok (.invokevirtual 292, 3) := dk_182 1 36 (dk_at dksX1_step_5 20 rfl rfl)
theorem dX1_step_139 : decode cX1_step 139 = .ok (.invokestatic 295, 3) := dk_184 1 39 (dk_at dksX1_step_6 0 rfl rfl)
theorem dX1_step_142 : decode cX1_step 142 = .ok (.lreturn, 1) := dk_173 (dk_at dksX1_step_6 3 rfl rfl)
abbrev cX1_isStep : ByteArray := prog_1_method_23_code
def yX1_isStep : MethodName := ⟨RX1, "isStep", "(II)Z"⟩
def dkwX1_isStep_1 : List UInt8 := [180, 1, 9, 4, 100, 133, 184, 0, 57, 153, 0, 7, 4, 167, 0, 4, 3, 172]
abbrev dktX1_isStep_1 : List UInt8 := dkwX1_isStep_1 ++ []
def dkwX1_isStep_0 : List UInt8 := [42, 27, 182, 1, 2, 153, 0, 35, 28, 133, 9, 42, 180, 0, 31, 27, 185, 1, 5, 2, 0, 192, 0, 228]
abbrev dktX1_isStep_0 : List UInt8 := dkwX1_isStep_0 ++ dktX1_isStep_1
theorem dksX1_isStep_0 : cX1_isStep.data.toList.drop 0 = dktX1_isStep_0 := by decide +kernel
theorem dksX1_isStep_1 : cX1_isStep.data.toList.drop 24 = dktX1_isStep_1 := dk_seg dksX1_isStep_0 24 rfl rfl
theorem dX1_isStep_0 : decode cX1_isStep 0 = .ok (.aload_n 0, 1) := dk_42 (dk_at dksX1_isStep_0 0 rfl rfl)
theorem dX1_isStep_1 : decode cX1_isStep 1 = .ok (.iload_n 1, 1) := dk_27 (dk_at dksX1_isStep_0 1 rfl rfl)
theorem dX1_isStep_2 : decode cX1_isStep 2 = .ok (.invokevirtual 258, 3) := dk_182 1 2 (dk_at dksX1_isStep_0 2 rfl rfl)
theorem dX1_isStep_5 : decode cX1_isStep 5 = .ok (.ifCond .eq 35, 3) := dk_153 0 35 (dk_at dksX1_isStep_0 5 rfl rfl)
theorem dX1_isStep_8 : decode cX1_isStep 8 = .ok (.iload_n 2, 1) := dk_28 (dk_at dksX1_isStep_0 8 rfl rfl)
theorem dX1_isStep_9 : decode cX1_isStep 9 = .ok (.i2l, 1) := dk_133 (dk_at dksX1_isStep_0 9 rfl rfl)
theorem dX1_isStep_10 : decode cX1_isStep 10 = .ok (.lconst 0, 1) := dk_9 (dk_at dksX1_isStep_0 10 rfl rfl)
theorem dX1_isStep_11 : decode cX1_isStep 11 = .ok (.aload_n 0, 1) := dk_42 (dk_at dksX1_isStep_0 11 rfl rfl)
theorem dX1_isStep_12 : decode cX1_isStep 12 = .ok (.getfield 31, 3) := dk_180 0 31 (dk_at dksX1_isStep_0 12 rfl rfl)
theorem dX1_isStep_15 : decode cX1_isStep 15 = .ok (.iload_n 1, 1) := dk_27 (dk_at dksX1_isStep_0 15 rfl rfl)
theorem dX1_isStep_16 : decode cX1_isStep 16 = .ok (.invokeinterface 261 2, 5) := by decide +kernel
theorem dX1_isStep_21 : decode cX1_isStep 21 = .ok (.checkcast 228, 3) := dk_192 0 228 (dk_at dksX1_isStep_0 21 rfl rfl)
theorem dX1_isStep_24 : decode cX1_isStep 24 = .ok (.getfield 265, 3) := dk_180 1 9 (dk_at dksX1_isStep_1 0 rfl rfl)
theorem dX1_isStep_27 : decode cX1_isStep 27 = .ok (.iconst 1, 1) := dk_4 (dk_at dksX1_isStep_1 3 rfl rfl)
theorem dX1_isStep_28 : decode cX1_isStep 28 = .ok (.isub, 1) := dk_100 (dk_at dksX1_isStep_1 4 rfl rfl)
theorem dX1_isStep_29 : decode cX1_isStep 29 = .ok (.i2l, 1) := dk_133 (dk_at dksX1_isStep_1 5 rfl rfl)
theorem dX1_isStep_30 : decode cX1_isStep 30 = .ok (.invokestatic 57, 3) := dk_184 0 57 (dk_at dksX1_isStep_1 6 rfl rfl)
theorem dX1_isStep_33 : decode cX1_isStep 33 = .ok (.ifCond .eq 7, 3) := dk_153 0 7 (dk_at dksX1_isStep_1 9 rfl rfl)
theorem dX1_isStep_36 : decode cX1_isStep 36 = .ok (.iconst 1, 1) := dk_4 (dk_at dksX1_isStep_1 12 rfl rfl)
theorem dX1_isStep_37 : decode cX1_isStep 37 = .ok (.goto 4, 3) := dk_167 0 4 (dk_at dksX1_isStep_1 13 rfl rfl)
theorem dX1_isStep_40 : decode cX1_isStep 40 = .ok (.iconst 0, 1) := dk_3 (dk_at dksX1_isStep_1 16 rfl rfl)
theorem dX1_isStep_41 : decode cX1_isStep 41 = .ok (.ireturn, 1) := dk_172 (dk_at dksX1_isStep_1 17 rfl rfl)
abbrev cX1_lose : ByteArray := prog_1_method_26_code
def yX1_lose : MethodName := ⟨RX1, "lose", "(LRoundingAuditor$Exact;LRoundingAuditor$Tape;I)V"⟩
def dkwX1_lose_1 : List UInt8 := [182, 0, 151, 43, 44, 180, 1, 23, 29, 49, 4, 182, 0, 151, 177]
abbrev dktX1_lose_1 : List UInt8 := dkwX1_lose_1 ++ []
def dkwX1_lose_0 : List UInt8 := [43, 182, 0, 148, 43, 44, 180, 1, 16, 29, 49, 3, 182, 0, 151, 43, 44, 180, 1, 20, 29, 49, 3]
abbrev dktX1_lose_0 : List UInt8 := dkwX1_lose_0 ++ dktX1_lose_1
theorem dksX1_lose_0 : cX1_lose.data.toList.drop 0 = dktX1_lose_0 := by decide +kernel
theorem dksX1_lose_1 : cX1_lose.data.toList.drop 23 = dktX1_lose_1 := dk_seg dksX1_lose_0 23 rfl rfl
theorem dX1_lose_0 : decode cX1_lose 0 = .ok (.aload_n 1, 1) := dk_43 (dk_at dksX1_lose_0 0 rfl rfl)
theorem dX1_lose_1 : decode cX1_lose 1 = .ok (.invokevirtual 148, 3) := dk_182 0 148 (dk_at dksX1_lose_0 1 rfl rfl)
theorem dX1_lose_4 : decode cX1_lose 4 = .ok (.aload_n 1, 1) := dk_43 (dk_at dksX1_lose_0 4 rfl rfl)
theorem dX1_lose_5 : decode cX1_lose 5 = .ok (.aload_n 2, 1) := dk_44 (dk_at dksX1_lose_0 5 rfl rfl)
theorem dX1_lose_6 : decode cX1_lose 6 = .ok (.getfield 272, 3) := dk_180 1 16 (dk_at dksX1_lose_0 6 rfl rfl)
theorem dX1_lose_9 : decode cX1_lose 9 = .ok (.iload_n 3, 1) := dk_29 (dk_at dksX1_lose_0 9 rfl rfl)
theorem dX1_lose_10 : decode cX1_lose 10 = .ok (.daload, 1) := dk_49 (dk_at dksX1_lose_0 10 rfl rfl)
theorem dX1_lose_11 : decode cX1_lose 11 = .ok (.iconst 0, 1) := dk_3 (dk_at dksX1_lose_0 11 rfl rfl)
theorem dX1_lose_12 : decode cX1_lose 12 = .ok (.invokevirtual 151, 3) := dk_182 0 151 (dk_at dksX1_lose_0 12 rfl rfl)
theorem dX1_lose_15 : decode cX1_lose 15 = .ok (.aload_n 1, 1) := dk_43 (dk_at dksX1_lose_0 15 rfl rfl)
theorem dX1_lose_16 : decode cX1_lose 16 = .ok (.aload_n 2, 1) := dk_44 (dk_at dksX1_lose_0 16 rfl rfl)
theorem dX1_lose_17 : decode cX1_lose 17 = .ok (.getfield 276, 3) := dk_180 1 20 (dk_at dksX1_lose_0 17 rfl rfl)
theorem dX1_lose_20 : decode cX1_lose 20 = .ok (.iload_n 3, 1) := dk_29 (dk_at dksX1_lose_0 20 rfl rfl)
theorem dX1_lose_21 : decode cX1_lose 21 = .ok (.daload, 1) := dk_49 (dk_at dksX1_lose_0 21 rfl rfl)
theorem dX1_lose_22 : decode cX1_lose 22 = .ok (.iconst 0, 1) := dk_3 (dk_at dksX1_lose_0 22 rfl rfl)
theorem dX1_lose_23 : decode cX1_lose 23 = .ok (.invokevirtual 151, 3) := dk_182 0 151 (dk_at dksX1_lose_1 0 rfl rfl)
theorem dX1_lose_26 : decode cX1_lose 26 = .ok (.aload_n 1, 1) := dk_43 (dk_at dksX1_lose_1 3 rfl rfl)
theorem dX1_lose_27 : decode cX1_lose 27 = .ok (.aload_n 2, 1) := dk_44 (dk_at dksX1_lose_1 4 rfl rfl)
theorem dX1_lose_28 : decode cX1_lose 28 = .ok (.getfield 279, 3) := dk_180 1 23 (dk_at dksX1_lose_1 5 rfl rfl)
theorem dX1_lose_31 : decode cX1_lose 31 = .ok (.iload_n 3, 1) := dk_29 (dk_at dksX1_lose_1 8 rfl rfl)
theorem dX1_lose_32 : decode cX1_lose 32 = .ok (.daload, 1) := dk_49 (dk_at dksX1_lose_1 9 rfl rfl)
theorem dX1_lose_33 : decode cX1_lose 33 = .ok (.iconst 1, 1) := dk_4 (dk_at dksX1_lose_1 10 rfl rfl)
theorem dX1_lose_34 : decode cX1_lose 34 = .ok (.invokevirtual 151, 3) := dk_182 0 151 (dk_at dksX1_lose_1 11 rfl rfl)
theorem dX1_lose_37 : decode cX1_lose 37 = .ok (.return_, 1) := dk_177 (dk_at dksX1_lose_1 14 rfl rfl)
abbrev cX1_story : ByteArray := prog_1_method_28_code
def yX1_story : MethodName := ⟨RX1, "story", "(II)I"⟩
def dkwX1_story_7 : List UInt8 := [167, 0, 13, 21, 10, 156, 0, 7, 6, 167, 0, 4, 7, 172]
abbrev dktX1_story_7 : List UInt8 := dkwX1_story_7 ++ []
def dkwX1_story_6 : List UInt8 := [180, 0, 18, 45, 28, 182, 1, 32, 42, 180, 0, 18, 182, 1, 48, 54, 10, 21, 10, 154, 0, 7, 5]
abbrev dktX1_story_6 : List UInt8 := dkwX1_story_6 ++ dktX1_story_7
def dkwX1_story_5 : List UInt8 := [14, 151, 157, 0, 17, 24, 4, 14, 151, 158, 0, 12, 24, 6, 14, 152, 156, 0, 5, 4, 172, 42, 42]
abbrev dktX1_story_5 : List UInt8 := dkwX1_story_5 ++ dktX1_story_6
def dkwX1_story_4 : List UInt8 := [184, 0, 92, 24, 6, 184, 0, 92, 184, 1, 46, 152, 157, 0, 33, 24, 4, 14, 152, 156, 0, 10, 24, 6]
abbrev dktX1_story_4 : List UInt8 := dkwX1_story_4 ++ dktX1_story_5
def dkwX1_story_3 : List UInt8 := [154, 0, 12, 24, 4, 14, 151, 153, 0, 5, 3, 172, 20, 1, 44, 24, 8, 184, 0, 92, 107, 24, 4]
abbrev dktX1_story_3 : List UInt8 := dkwX1_story_3 ++ dktX1_story_4
def dkwX1_story_2 : List UInt8 := [28, 49, 57, 8, 24, 8, 24, 4, 151, 154, 0, 10, 24, 6, 14, 151, 154, 0, 18, 24, 8, 24, 6, 151]
abbrev dktX1_story_2 : List UInt8 := dkwX1_story_2 ++ dktX1_story_3
def dkwX1_story_1 : List UInt8 := [192, 0, 228, 78, 45, 180, 1, 16, 28, 49, 57, 4, 45, 180, 1, 20, 28, 49, 57, 6, 45, 180, 1, 23]
abbrev dktX1_story_1 : List UInt8 := dkwX1_story_1 ++ dktX1_story_2
def dkwX1_story_0 : List UInt8 := [42, 27, 28, 182, 1, 26, 154, 0, 6, 16, 155, 172, 42, 180, 0, 31, 27, 185, 1, 5, 2, 0]
abbrev dktX1_story_0 : List UInt8 := dkwX1_story_0 ++ dktX1_story_1
theorem dksX1_story_0 : cX1_story.data.toList.drop 0 = dktX1_story_0 := by decide +kernel
theorem dksX1_story_1 : cX1_story.data.toList.drop 22 = dktX1_story_1 := dk_seg dksX1_story_0 22 rfl rfl
theorem dksX1_story_2 : cX1_story.data.toList.drop 46 = dktX1_story_2 := dk_seg dksX1_story_1 24 rfl rfl
theorem dksX1_story_3 : cX1_story.data.toList.drop 70 = dktX1_story_3 := dk_seg dksX1_story_2 24 rfl rfl
theorem dksX1_story_4 : cX1_story.data.toList.drop 93 = dktX1_story_4 := dk_seg dksX1_story_3 23 rfl rfl
theorem dksX1_story_5 : cX1_story.data.toList.drop 117 = dktX1_story_5 := dk_seg dksX1_story_4 24 rfl rfl
theorem dksX1_story_6 : cX1_story.data.toList.drop 140 = dktX1_story_6 := dk_seg dksX1_story_5 23 rfl rfl
theorem dksX1_story_7 : cX1_story.data.toList.drop 163 = dktX1_story_7 := dk_seg dksX1_story_6 23 rfl rfl
theorem dX1_story_0 : decode cX1_story 0 = .ok (.aload_n 0, 1) := dk_42 (dk_at dksX1_story_0 0 rfl rfl)
theorem dX1_story_1 : decode cX1_story 1 = .ok (.iload_n 1, 1) := dk_27 (dk_at dksX1_story_0 1 rfl rfl)
theorem dX1_story_2 : decode cX1_story 2 = .ok (.iload_n 2, 1) := dk_28 (dk_at dksX1_story_0 2 rfl rfl)
theorem dX1_story_3 : decode cX1_story 3 = .ok (.invokevirtual 282, 3) := dk_182 1 26 (dk_at dksX1_story_0 3 rfl rfl)
theorem dX1_story_6 : decode cX1_story 6 = .ok (.ifCond .ne 6, 3) := dk_154 0 6 (dk_at dksX1_story_0 6 rfl rfl)
theorem dX1_story_9 : decode cX1_story 9 = .ok (.bipush (-101), 2) := dk_16 155 (dk_at dksX1_story_0 9 rfl rfl)
theorem dX1_story_11 : decode cX1_story 11 = .ok (.ireturn, 1) := dk_172 (dk_at dksX1_story_0 11 rfl rfl)
theorem dX1_story_12 : decode cX1_story 12 = .ok (.aload_n 0, 1) := dk_42 (dk_at dksX1_story_0 12 rfl rfl)
theorem dX1_story_13 : decode cX1_story 13 = .ok (.getfield 31, 3) := dk_180 0 31 (dk_at dksX1_story_0 13 rfl rfl)
theorem dX1_story_16 : decode cX1_story 16 = .ok (.iload_n 1, 1) := dk_27 (dk_at dksX1_story_0 16 rfl rfl)
theorem dX1_story_17 : decode cX1_story 17 = .ok (.invokeinterface 261 2, 5) := by decide +kernel
theorem dX1_story_22 : decode cX1_story 22 = .ok (.checkcast 228, 3) := dk_192 0 228 (dk_at dksX1_story_1 0 rfl rfl)
theorem dX1_story_25 : decode cX1_story 25 = .ok (.astore_n 3, 1) := dk_78 (dk_at dksX1_story_1 3 rfl rfl)
theorem dX1_story_26 : decode cX1_story 26 = .ok (.aload_n 3, 1) := dk_45 (dk_at dksX1_story_1 4 rfl rfl)
theorem dX1_story_27 : decode cX1_story 27 = .ok (.getfield 272, 3) := dk_180 1 16 (dk_at dksX1_story_1 5 rfl rfl)
theorem dX1_story_30 : decode cX1_story 30 = .ok (.iload_n 2, 1) := dk_28 (dk_at dksX1_story_1 8 rfl rfl)
theorem dX1_story_31 : decode cX1_story 31 = .ok (.daload, 1) := dk_49 (dk_at dksX1_story_1 9 rfl rfl)
theorem dX1_story_32 : decode cX1_story 32 = .ok (.dstore 4, 2) := dk_57 4 (dk_at dksX1_story_1 10 rfl rfl)
theorem dX1_story_34 : decode cX1_story 34 = .ok (.aload_n 3, 1) := dk_45 (dk_at dksX1_story_1 12 rfl rfl)
theorem dX1_story_35 : decode cX1_story 35 = .ok (.getfield 276, 3) := dk_180 1 20 (dk_at dksX1_story_1 13 rfl rfl)
theorem dX1_story_38 : decode cX1_story 38 = .ok (.iload_n 2, 1) := dk_28 (dk_at dksX1_story_1 16 rfl rfl)
theorem dX1_story_39 : decode cX1_story 39 = .ok (.daload, 1) := dk_49 (dk_at dksX1_story_1 17 rfl rfl)
theorem dX1_story_40 : decode cX1_story 40 = .ok (.dstore 6, 2) := dk_57 6 (dk_at dksX1_story_1 18 rfl rfl)
theorem dX1_story_42 : decode cX1_story 42 = .ok (.aload_n 3, 1) := dk_45 (dk_at dksX1_story_1 20 rfl rfl)
theorem dX1_story_43 : decode cX1_story 43 = .ok (.getfield 279, 3) := dk_180 1 23 (dk_at dksX1_story_1 21 rfl rfl)
theorem dX1_story_46 : decode cX1_story 46 = .ok (.iload_n 2, 1) := dk_28 (dk_at dksX1_story_2 0 rfl rfl)
theorem dX1_story_47 : decode cX1_story 47 = .ok (.daload, 1) := dk_49 (dk_at dksX1_story_2 1 rfl rfl)
theorem dX1_story_48 : decode cX1_story 48 = .ok (.dstore 8, 2) := dk_57 8 (dk_at dksX1_story_2 2 rfl rfl)
theorem dX1_story_50 : decode cX1_story 50 = .ok (.dload 8, 2) := dk_24 8 (dk_at dksX1_story_2 4 rfl rfl)
theorem dX1_story_52 : decode cX1_story 52 = .ok (.dload 4, 2) := dk_24 4 (dk_at dksX1_story_2 6 rfl rfl)
theorem dX1_story_54 : decode cX1_story 54 = .ok (.dcmp .l, 1) := dk_151 (dk_at dksX1_story_2 8 rfl rfl)
theorem dX1_story_55 : decode cX1_story 55 = .ok (.ifCond .ne 10, 3) := dk_154 0 10 (dk_at dksX1_story_2 9 rfl rfl)
theorem dX1_story_58 : decode cX1_story 58 = .ok (.dload 6, 2) := dk_24 6 (dk_at dksX1_story_2 12 rfl rfl)
theorem dX1_story_60 : decode cX1_story 60 = .ok (.dconst 0, 1) := dk_14 (dk_at dksX1_story_2 14 rfl rfl)
theorem dX1_story_61 : decode cX1_story 61 = .ok (.dcmp .l, 1) := dk_151 (dk_at dksX1_story_2 15 rfl rfl)
theorem dX1_story_62 : decode cX1_story 62 = .ok (.ifCond .ne 18, 3) := dk_154 0 18 (dk_at dksX1_story_2 16 rfl rfl)
theorem dX1_story_65 : decode cX1_story 65 = .ok (.dload 8, 2) := dk_24 8 (dk_at dksX1_story_2 19 rfl rfl)
theorem dX1_story_67 : decode cX1_story 67 = .ok (.dload 6, 2) := dk_24 6 (dk_at dksX1_story_2 21 rfl rfl)
theorem dX1_story_69 : decode cX1_story 69 = .ok (.dcmp .l, 1) := dk_151 (dk_at dksX1_story_2 23 rfl rfl)
theorem dX1_story_70 : decode cX1_story 70 = .ok (.ifCond .ne 12, 3) := dk_154 0 12 (dk_at dksX1_story_3 0 rfl rfl)
theorem dX1_story_73 : decode cX1_story 73 = .ok (.dload 4, 2) := dk_24 4 (dk_at dksX1_story_3 3 rfl rfl)
theorem dX1_story_75 : decode cX1_story 75 = .ok (.dconst 0, 1) := dk_14 (dk_at dksX1_story_3 5 rfl rfl)
theorem dX1_story_76 : decode cX1_story 76 = .ok (.dcmp .l, 1) := dk_151 (dk_at dksX1_story_3 6 rfl rfl)
theorem dX1_story_77 : decode cX1_story 77 = .ok (.ifCond .eq 5, 3) := dk_153 0 5 (dk_at dksX1_story_3 7 rfl rfl)
theorem dX1_story_80 : decode cX1_story 80 = .ok (.iconst 0, 1) := dk_3 (dk_at dksX1_story_3 10 rfl rfl)
theorem dX1_story_81 : decode cX1_story 81 = .ok (.ireturn, 1) := dk_172 (dk_at dksX1_story_3 11 rfl rfl)
theorem dX1_story_82 : decode cX1_story 82 = .ok (.ldc2_w 300, 3) := dk_20 1 44 (dk_at dksX1_story_3 12 rfl rfl)
theorem dX1_story_85 : decode cX1_story 85 = .ok (.dload 8, 2) := dk_24 8 (dk_at dksX1_story_3 15 rfl rfl)
theorem dX1_story_87 : decode cX1_story 87 = .ok (.invokestatic 92, 3) := dk_184 0 92 (dk_at dksX1_story_3 17 rfl rfl)
theorem dX1_story_90 : decode cX1_story 90 = .ok (.dmul, 1) := dk_107 (dk_at dksX1_story_3 20 rfl rfl)
theorem dX1_story_91 : decode cX1_story 91 = .ok (.dload 4, 2) := dk_24 4 (dk_at dksX1_story_3 21 rfl rfl)
theorem dX1_story_93 : decode cX1_story 93 = .ok (.invokestatic 92, 3) := dk_184 0 92 (dk_at dksX1_story_4 0 rfl rfl)
theorem dX1_story_96 : decode cX1_story 96 = .ok (.dload 6, 2) := dk_24 6 (dk_at dksX1_story_4 3 rfl rfl)
theorem dX1_story_98 : decode cX1_story 98 = .ok (.invokestatic 92, 3) := dk_184 0 92 (dk_at dksX1_story_4 5 rfl rfl)
theorem dX1_story_101 : decode cX1_story 101 = .ok (.invokestatic 302, 3) := dk_184 1 46 (dk_at dksX1_story_4 8 rfl rfl)
theorem dX1_story_104 : decode cX1_story 104 = .ok (.dcmp .g, 1) := dk_152 (dk_at dksX1_story_4 11 rfl rfl)
theorem dX1_story_105 : decode cX1_story 105 = .ok (.ifCond .gt 33, 3) := dk_157 0 33 (dk_at dksX1_story_4 12 rfl rfl)
theorem dX1_story_108 : decode cX1_story 108 = .ok (.dload 4, 2) := dk_24 4 (dk_at dksX1_story_4 15 rfl rfl)
theorem dX1_story_110 : decode cX1_story 110 = .ok (.dconst 0, 1) := dk_14 (dk_at dksX1_story_4 17 rfl rfl)
theorem dX1_story_111 : decode cX1_story 111 = .ok (.dcmp .g, 1) := dk_152 (dk_at dksX1_story_4 18 rfl rfl)
theorem dX1_story_112 : decode cX1_story 112 = .ok (.ifCond .ge 10, 3) := dk_156 0 10 (dk_at dksX1_story_4 19 rfl rfl)
theorem dX1_story_115 : decode cX1_story 115 = .ok (.dload 6, 2) := dk_24 6 (dk_at dksX1_story_4 22 rfl rfl)
theorem dX1_story_117 : decode cX1_story 117 = .ok (.dconst 0, 1) := dk_14 (dk_at dksX1_story_5 0 rfl rfl)
theorem dX1_story_118 : decode cX1_story 118 = .ok (.dcmp .l, 1) := dk_151 (dk_at dksX1_story_5 1 rfl rfl)
theorem dX1_story_119 : decode cX1_story 119 = .ok (.ifCond .gt 17, 3) := dk_157 0 17 (dk_at dksX1_story_5 2 rfl rfl)
theorem dX1_story_122 : decode cX1_story 122 = .ok (.dload 4, 2) := dk_24 4 (dk_at dksX1_story_5 5 rfl rfl)
theorem dX1_story_124 : decode cX1_story 124 = .ok (.dconst 0, 1) := dk_14 (dk_at dksX1_story_5 7 rfl rfl)
theorem dX1_story_125 : decode cX1_story 125 = .ok (.dcmp .l, 1) := dk_151 (dk_at dksX1_story_5 8 rfl rfl)
theorem dX1_story_126 : decode cX1_story 126 = .ok (.ifCond .le 12, 3) := dk_158 0 12 (dk_at dksX1_story_5 9 rfl rfl)
theorem dX1_story_129 : decode cX1_story 129 = .ok (.dload 6, 2) := dk_24 6 (dk_at dksX1_story_5 12 rfl rfl)
theorem dX1_story_131 : decode cX1_story 131 = .ok (.dconst 0, 1) := dk_14 (dk_at dksX1_story_5 14 rfl rfl)
theorem dX1_story_132 : decode cX1_story 132 = .ok (.dcmp .g, 1) := dk_152 (dk_at dksX1_story_5 15 rfl rfl)
theorem dX1_story_133 : decode cX1_story 133 = .ok (.ifCond .ge 5, 3) := dk_156 0 5 (dk_at dksX1_story_5 16 rfl rfl)
theorem dX1_story_136 : decode cX1_story 136 = .ok (.iconst 1, 1) := dk_4 (dk_at dksX1_story_5 19 rfl rfl)
theorem dX1_story_137 : decode cX1_story 137 = .ok (.ireturn, 1) := dk_172 (dk_at dksX1_story_5 20 rfl rfl)
theorem dX1_story_138 : decode cX1_story 138 = .ok (.aload_n 0, 1) := dk_42 (dk_at dksX1_story_5 21 rfl rfl)
theorem dX1_story_139 : decode cX1_story 139 = .ok (.aload_n 0, 1) := dk_42 (dk_at dksX1_story_5 22 rfl rfl)
theorem dX1_story_140 : decode cX1_story 140 = .ok (.getfield 18, 3) := dk_180 0 18 (dk_at dksX1_story_6 0 rfl rfl)
theorem dX1_story_143 : decode cX1_story 143 = .ok (.aload_n 3, 1) := dk_45 (dk_at dksX1_story_6 3 rfl rfl)
theorem dX1_story_144 : decode cX1_story 144 = .ok (.iload_n 2, 1) := dk_28 (dk_at dksX1_story_6 4 rfl rfl)
theorem dX1_story_145 : decode cX1_story 145 = .ok (.invokevirtual 288, 3) := dk_182 1 32 (dk_at dksX1_story_6 5 rfl rfl)
theorem dX1_story_148 : decode cX1_story 148 = .ok (.aload_n 0, 1) := dk_42 (dk_at dksX1_story_6 8 rfl rfl)
theorem dX1_story_149 : decode cX1_story 149 = .ok (.getfield 18, 3) := dk_180 0 18 (dk_at dksX1_story_6 9 rfl rfl)
theorem dX1_story_152 : decode cX1_story 152 = .ok (.invokevirtual 304, 3) := dk_182 1 48 (dk_at dksX1_story_6 12 rfl rfl)
theorem dX1_story_155 : decode cX1_story 155 = .ok (.istore 10, 2) := dk_54 10 (dk_at dksX1_story_6 15 rfl rfl)
theorem dX1_story_157 : decode cX1_story 157 = .ok (.iload 10, 2) := dk_21 10 (dk_at dksX1_story_6 17 rfl rfl)
theorem dX1_story_159 : decode cX1_story 159 = .ok (.ifCond .ne 7, 3) := dk_154 0 7 (dk_at dksX1_story_6 19 rfl rfl)
theorem dX1_story_162 : decode cX1_story 162 = .ok (.iconst 2, 1) := dk_5 (dk_at dksX1_story_6 22 rfl rfl)
theorem dX1_story_163 : decode cX1_story 163 = .ok (.goto 13, 3) := dk_167 0 13 (dk_at dksX1_story_7 0 rfl rfl)
theorem dX1_story_166 : decode cX1_story 166 = .ok (.iload 10, 2) := dk_21 10 (dk_at dksX1_story_7 3 rfl rfl)
theorem dX1_story_168 : decode cX1_story 168 = .ok (.ifCond .ge 7, 3) := dk_156 0 7 (dk_at dksX1_story_7 5 rfl rfl)
theorem dX1_story_171 : decode cX1_story 171 = .ok (.iconst 3, 1) := dk_6 (dk_at dksX1_story_7 8 rfl rfl)
theorem dX1_story_172 : decode cX1_story 172 = .ok (.goto 4, 3) := dk_167 0 4 (dk_at dksX1_story_7 9 rfl rfl)
theorem dX1_story_175 : decode cX1_story 175 = .ok (.iconst 4, 1) := dk_7 (dk_at dksX1_story_7 12 rfl rfl)
theorem dX1_story_176 : decode cX1_story 176 = .ok (.ireturn, 1) := dk_172 (dk_at dksX1_story_7 13 rfl rfl)
abbrev cX1_worst : ByteArray := prog_1_method_29_code
def yX1_worst : MethodName := ⟨RX1, "worst", "(I)I"⟩
def dkwX1_worst_4 : List UInt8 := [180, 0, 18, 182, 1, 58, 21, 4, 62, 132, 4, 1, 167, 255, 188, 29, 172]
abbrev dktX1_worst_4 : List UInt8 := dkwX1_worst_4 ++ []
def dkwX1_worst_3 : List UInt8 := [182, 1, 51, 42, 180, 0, 18, 42, 180, 0, 22, 182, 1, 54, 158, 0, 17, 42, 180, 0, 22, 42]
abbrev dktX1_worst_3 : List UInt8 := dkwX1_worst_3 ++ dktX1_worst_4
def dkwX1_worst_2 : List UInt8 := [180, 0, 18, 44, 21, 4, 182, 1, 32, 42, 180, 0, 18, 182, 1, 48, 156, 0, 10, 42, 180, 0, 18]
abbrev dktX1_worst_2 : List UInt8 := dkwX1_worst_2 ++ dktX1_worst_3
def dkwX1_worst_1 : List UInt8 := [77, 2, 62, 42, 180, 0, 22, 182, 0, 148, 3, 54, 4, 21, 4, 44, 180, 1, 9, 162, 0, 65, 42, 42]
abbrev dktX1_worst_1 : List UInt8 := dkwX1_worst_1 ++ dktX1_worst_2
def dkwX1_worst_0 : List UInt8 := [42, 27, 182, 1, 2, 154, 0, 6, 16, 155, 172, 42, 180, 0, 31, 27, 185, 1, 5, 2, 0, 192, 0, 228]
abbrev dktX1_worst_0 : List UInt8 := dkwX1_worst_0 ++ dktX1_worst_1
theorem dksX1_worst_0 : cX1_worst.data.toList.drop 0 = dktX1_worst_0 := by decide +kernel
theorem dksX1_worst_1 : cX1_worst.data.toList.drop 24 = dktX1_worst_1 := dk_seg dksX1_worst_0 24 rfl rfl
theorem dksX1_worst_2 : cX1_worst.data.toList.drop 48 = dktX1_worst_2 := dk_seg dksX1_worst_1 24 rfl rfl
theorem dksX1_worst_3 : cX1_worst.data.toList.drop 71 = dktX1_worst_3 := dk_seg dksX1_worst_2 23 rfl rfl
theorem dksX1_worst_4 : cX1_worst.data.toList.drop 93 = dktX1_worst_4 := dk_seg dksX1_worst_3 22 rfl rfl
theorem dX1_worst_0 : decode cX1_worst 0 = .ok (.aload_n 0, 1) := dk_42 (dk_at dksX1_worst_0 0 rfl rfl)
theorem dX1_worst_1 : decode cX1_worst 1 = .ok (.iload_n 1, 1) := dk_27 (dk_at dksX1_worst_0 1 rfl rfl)
theorem dX1_worst_2 : decode cX1_worst 2 = .ok (.invokevirtual 258, 3) := dk_182 1 2 (dk_at dksX1_worst_0 2 rfl rfl)
theorem dX1_worst_5 : decode cX1_worst 5 = .ok (.ifCond .ne 6, 3) := dk_154 0 6 (dk_at dksX1_worst_0 5 rfl rfl)
theorem dX1_worst_8 : decode cX1_worst 8 = .ok (.bipush (-101), 2) := dk_16 155 (dk_at dksX1_worst_0 8 rfl rfl)
theorem dX1_worst_10 : decode cX1_worst 10 = .ok (.ireturn, 1) := dk_172 (dk_at dksX1_worst_0 10 rfl rfl)
theorem dX1_worst_11 : decode cX1_worst 11 = .ok (.aload_n 0, 1) := dk_42 (dk_at dksX1_worst_0 11 rfl rfl)
theorem dX1_worst_12 : decode cX1_worst 12 = .ok (.getfield 31, 3) := dk_180 0 31 (dk_at dksX1_worst_0 12 rfl rfl)
theorem dX1_worst_15 : decode cX1_worst 15 = .ok (.iload_n 1, 1) := dk_27 (dk_at dksX1_worst_0 15 rfl rfl)
theorem dX1_worst_16 : decode cX1_worst 16 = .ok (.invokeinterface 261 2, 5) := by decide +kernel
theorem dX1_worst_21 : decode cX1_worst 21 = .ok (.checkcast 228, 3) := dk_192 0 228 (dk_at dksX1_worst_0 21 rfl rfl)
theorem dX1_worst_24 : decode cX1_worst 24 = .ok (.astore_n 2, 1) := dk_77 (dk_at dksX1_worst_1 0 rfl rfl)
theorem dX1_worst_25 : decode cX1_worst 25 = .ok (.iconst (-1), 1) := dk_2 (dk_at dksX1_worst_1 1 rfl rfl)
theorem dX1_worst_26 : decode cX1_worst 26 = .ok (.istore_n 3, 1) := dk_62 (dk_at dksX1_worst_1 2 rfl rfl)
theorem dX1_worst_27 : decode cX1_worst 27 = .ok (.aload_n 0, 1) := dk_42 (dk_at dksX1_worst_1 3 rfl rfl)
theorem dX1_worst_28 : decode cX1_worst 28 = .ok (.getfield 22, 3) := dk_180 0 22 (dk_at dksX1_worst_1 4 rfl rfl)
theorem dX1_worst_31 : decode cX1_worst 31 = .ok (.invokevirtual 148, 3) := dk_182 0 148 (dk_at dksX1_worst_1 7 rfl rfl)
theorem dX1_worst_34 : decode cX1_worst 34 = .ok (.iconst 0, 1) := dk_3 (dk_at dksX1_worst_1 10 rfl rfl)
theorem dX1_worst_35 : decode cX1_worst 35 = .ok (.istore 4, 2) := dk_54 4 (dk_at dksX1_worst_1 11 rfl rfl)
theorem dX1_worst_37 : decode cX1_worst 37 = .ok (.iload 4, 2) := dk_21 4 (dk_at dksX1_worst_1 13 rfl rfl)
theorem dX1_worst_39 : decode cX1_worst 39 = .ok (.aload_n 2, 1) := dk_44 (dk_at dksX1_worst_1 15 rfl rfl)
theorem dX1_worst_40 : decode cX1_worst 40 = .ok (.getfield 265, 3) := dk_180 1 9 (dk_at dksX1_worst_1 16 rfl rfl)
theorem dX1_worst_43 : decode cX1_worst 43 = .ok (.if_icmp .ge 65, 3) := dk_162 0 65 (dk_at dksX1_worst_1 19 rfl rfl)
theorem dX1_worst_46 : decode cX1_worst 46 = .ok (.aload_n 0, 1) := dk_42 (dk_at dksX1_worst_1 22 rfl rfl)
theorem dX1_worst_47 : decode cX1_worst 47 = .ok (.aload_n 0, 1) := dk_42 (dk_at dksX1_worst_1 23 rfl rfl)
theorem dX1_worst_48 : decode cX1_worst 48 = .ok (.getfield 18, 3) := dk_180 0 18 (dk_at dksX1_worst_2 0 rfl rfl)
theorem dX1_worst_51 : decode cX1_worst 51 = .ok (.aload_n 2, 1) := dk_44 (dk_at dksX1_worst_2 3 rfl rfl)
theorem dX1_worst_52 : decode cX1_worst 52 = .ok (.iload 4, 2) := dk_21 4 (dk_at dksX1_worst_2 4 rfl rfl)
theorem dX1_worst_54 : decode cX1_worst 54 = .ok (.invokevirtual 288, 3) := dk_182 1 32 (dk_at dksX1_worst_2 6 rfl rfl)
theorem dX1_worst_57 : decode cX1_worst 57 = .ok (.aload_n 0, 1) := dk_42 (dk_at dksX1_worst_2 9 rfl rfl)
theorem dX1_worst_58 : decode cX1_worst 58 = .ok (.getfield 18, 3) := dk_180 0 18 (dk_at dksX1_worst_2 10 rfl rfl)
theorem dX1_worst_61 : decode cX1_worst 61 = .ok (.invokevirtual 304, 3) := dk_182 1 48 (dk_at dksX1_worst_2 13 rfl rfl)
theorem dX1_worst_64 : decode cX1_worst 64 = .ok (.ifCond .ge 10, 3) := dk_156 0 10 (dk_at dksX1_worst_2 16 rfl rfl)
theorem dX1_worst_67 : decode cX1_worst 67 = .ok (.aload_n 0, 1) := dk_42 (dk_at dksX1_worst_2 19 rfl rfl)
theorem dX1_worst_68 : decode cX1_worst 68 = .ok (.getfield 18, 3) := dk_180 0 18 (dk_at dksX1_worst_2 20 rfl rfl)
theorem dX1_worst_71 : decode cX1_worst 71 = .ok (.invokevirtual 307, 3) := dk_182 1 51 (dk_at dksX1_worst_3 0 rfl rfl)
theorem dX1_worst_74 : decode cX1_worst 74 = .ok (.aload_n 0, 1) := dk_42 (dk_at dksX1_worst_3 3 rfl rfl)
theorem dX1_worst_75 : decode cX1_worst 75 = .ok (.getfield 18, 3) := dk_180 0 18 (dk_at dksX1_worst_3 4 rfl rfl)
theorem dX1_worst_78 : decode cX1_worst 78 = .ok (.aload_n 0, 1) := dk_42 (dk_at dksX1_worst_3 7 rfl rfl)
theorem dX1_worst_79 : decode cX1_worst 79 = .ok (.getfield 22, 3) := dk_180 0 22 (dk_at dksX1_worst_3 8 rfl rfl)
theorem dX1_worst_82 : decode cX1_worst 82 = .ok (.invokevirtual 310, 3) := dk_182 1 54 (dk_at dksX1_worst_3 11 rfl rfl)
theorem dX1_worst_85 : decode cX1_worst 85 = .ok (.ifCond .le 17, 3) := dk_158 0 17 (dk_at dksX1_worst_3 14 rfl rfl)
theorem dX1_worst_88 : decode cX1_worst 88 = .ok (.aload_n 0, 1) := dk_42 (dk_at dksX1_worst_3 17 rfl rfl)
theorem dX1_worst_89 : decode cX1_worst 89 = .ok (.getfield 22, 3) := dk_180 0 22 (dk_at dksX1_worst_3 18 rfl rfl)
theorem dX1_worst_92 : decode cX1_worst 92 = .ok (.aload_n 0, 1) := dk_42 (dk_at dksX1_worst_3 21 rfl rfl)
theorem dX1_worst_93 : decode cX1_worst 93 = .ok (.getfield 18, 3) := dk_180 0 18 (dk_at dksX1_worst_4 0 rfl rfl)
theorem dX1_worst_96 : decode cX1_worst 96 = .ok (.invokevirtual 314, 3) := dk_182 1 58 (dk_at dksX1_worst_4 3 rfl rfl)
theorem dX1_worst_99 : decode cX1_worst 99 = .ok (.iload 4, 2) := dk_21 4 (dk_at dksX1_worst_4 6 rfl rfl)
theorem dX1_worst_101 : decode cX1_worst 101 = .ok (.istore_n 3, 1) := dk_62 (dk_at dksX1_worst_4 8 rfl rfl)
theorem dX1_worst_102 : decode cX1_worst 102 = .ok (.iinc 4 1, 3) := dk_132 4 1 (dk_at dksX1_worst_4 9 rfl rfl)
theorem dX1_worst_105 : decode cX1_worst 105 = .ok (.goto (-68), 3) := dk_167 255 188 (dk_at dksX1_worst_4 12 rfl rfl)
theorem dX1_worst_108 : decode cX1_worst 108 = .ok (.iload_n 3, 1) := dk_29 (dk_at dksX1_worst_4 15 rfl rfl)
theorem dX1_worst_109 : decode cX1_worst 109 = .ok (.ireturn, 1) := dk_172 (dk_at dksX1_worst_4 16 rfl rfl)
abbrev cX1_off : ByteArray := prog_1_method_30_code
def yX1_off : MethodName := ⟨RX1, "off", "(II)I"⟩
def dkwX1_off_8 : List UInt8 := [182, 1, 54, 155, 0, 6, 21, 4, 172, 132, 4, 1, 167, 255, 134, 2, 172]
abbrev dktX1_off_8 : List UInt8 := dkwX1_off_8 ++ []
def dkwX1_off_7 : List UInt8 := [42, 180, 0, 18, 20, 1, 65, 178, 0, 155, 28, 47, 105, 182, 0, 159, 42, 180, 0, 18, 42, 180, 0, 25]
abbrev dktX1_off_7 : List UInt8 := dkwX1_off_7 ++ dktX1_off_8
def dkwX1_off_6 : List UInt8 := [21, 4, 49, 4, 182, 0, 151, 42, 180, 0, 18, 182, 1, 48, 156, 0, 10, 42, 180, 0, 18, 182, 1, 51]
abbrev dktX1_off_6 : List UInt8 := dkwX1_off_6 ++ dktX1_off_7
def dkwX1_off_5 : List UInt8 := [3, 182, 0, 151, 42, 180, 0, 18, 42, 180, 0, 22, 182, 1, 58, 42, 180, 0, 18, 45, 180, 1, 23]
abbrev dktX1_off_5 : List UInt8 := dkwX1_off_5 ++ dktX1_off_6
def dkwX1_off_4 : List UInt8 := [180, 0, 22, 45, 180, 1, 16, 3, 49, 3, 182, 0, 151, 42, 180, 0, 22, 45, 180, 1, 20, 21, 4, 49]
abbrev dktX1_off_4 : List UInt8 := dkwX1_off_4 ++ dktX1_off_5
def dkwX1_off_3 : List UInt8 := [15, 3, 182, 0, 151, 3, 54, 4, 21, 4, 45, 180, 1, 9, 162, 0, 119, 21, 4, 154, 0, 17, 42]
abbrev dktX1_off_3 : List UInt8 := dkwX1_off_3 ++ dktX1_off_4
def dkwX1_off_2 : List UInt8 := [164, 0, 6, 16, 152, 172, 42, 180, 0, 22, 182, 0, 148, 42, 180, 0, 25, 182, 0, 148, 42, 180, 0, 25]
abbrev dktX1_off_2 : List UInt8 := dkwX1_off_2 ++ dktX1_off_3
def dkwX1_off_1 : List UInt8 := [16, 154, 172, 42, 180, 0, 31, 27, 185, 1, 5, 2, 0, 192, 0, 228, 78, 45, 180, 1, 62, 16, 6]
abbrev dktX1_off_1 : List UInt8 := dkwX1_off_1 ++ dktX1_off_2
def dkwX1_off_0 : List UInt8 := [42, 27, 182, 1, 2, 154, 0, 6, 16, 155, 172, 28, 133, 9, 20, 0, 99, 184, 0, 57, 154, 0, 6]
abbrev dktX1_off_0 : List UInt8 := dkwX1_off_0 ++ dktX1_off_1
theorem dksX1_off_0 : cX1_off.data.toList.drop 0 = dktX1_off_0 := by decide +kernel
theorem dksX1_off_1 : cX1_off.data.toList.drop 23 = dktX1_off_1 := dk_seg dksX1_off_0 23 rfl rfl
theorem dksX1_off_2 : cX1_off.data.toList.drop 46 = dktX1_off_2 := dk_seg dksX1_off_1 23 rfl rfl
theorem dksX1_off_3 : cX1_off.data.toList.drop 70 = dktX1_off_3 := dk_seg dksX1_off_2 24 rfl rfl
theorem dksX1_off_4 : cX1_off.data.toList.drop 93 = dktX1_off_4 := dk_seg dksX1_off_3 23 rfl rfl
theorem dksX1_off_5 : cX1_off.data.toList.drop 117 = dktX1_off_5 := dk_seg dksX1_off_4 24 rfl rfl
theorem dksX1_off_6 : cX1_off.data.toList.drop 140 = dktX1_off_6 := dk_seg dksX1_off_5 23 rfl rfl
theorem dksX1_off_7 : cX1_off.data.toList.drop 164 = dktX1_off_7 := dk_seg dksX1_off_6 24 rfl rfl
theorem dksX1_off_8 : cX1_off.data.toList.drop 188 = dktX1_off_8 := dk_seg dksX1_off_7 24 rfl rfl
theorem dX1_off_0 : decode cX1_off 0 = .ok (.aload_n 0, 1) := dk_42 (dk_at dksX1_off_0 0 rfl rfl)
theorem dX1_off_1 : decode cX1_off 1 = .ok (.iload_n 1, 1) := dk_27 (dk_at dksX1_off_0 1 rfl rfl)
theorem dX1_off_2 : decode cX1_off 2 = .ok (.invokevirtual 258, 3) := dk_182 1 2 (dk_at dksX1_off_0 2 rfl rfl)
theorem dX1_off_5 : decode cX1_off 5 = .ok (.ifCond .ne 6, 3) := dk_154 0 6 (dk_at dksX1_off_0 5 rfl rfl)
theorem dX1_off_8 : decode cX1_off 8 = .ok (.bipush (-101), 2) := dk_16 155 (dk_at dksX1_off_0 8 rfl rfl)
theorem dX1_off_10 : decode cX1_off 10 = .ok (.ireturn, 1) := dk_172 (dk_at dksX1_off_0 10 rfl rfl)
theorem dX1_off_11 : decode cX1_off 11 = .ok (.iload_n 2, 1) := dk_28 (dk_at dksX1_off_0 11 rfl rfl)
theorem dX1_off_12 : decode cX1_off 12 = .ok (.i2l, 1) := dk_133 (dk_at dksX1_off_0 12 rfl rfl)
theorem dX1_off_13 : decode cX1_off 13 = .ok (.lconst 0, 1) := dk_9 (dk_at dksX1_off_0 13 rfl rfl)
theorem dX1_off_14 : decode cX1_off 14 = .ok (.ldc2_w 99, 3) := dk_20 0 99 (dk_at dksX1_off_0 14 rfl rfl)
theorem dX1_off_17 : decode cX1_off 17 = .ok (.invokestatic 57, 3) := dk_184 0 57 (dk_at dksX1_off_0 17 rfl rfl)
theorem dX1_off_20 : decode cX1_off 20 = .ok (.ifCond .ne 6, 3) := dk_154 0 6 (dk_at dksX1_off_0 20 rfl rfl)
theorem dX1_off_23 : decode cX1_off 23 = .ok (.bipush (-102), 2) := dk_16 154 (dk_at dksX1_off_1 0 rfl rfl)
theorem dX1_off_25 : decode cX1_off 25 = .ok (.ireturn, 1) := dk_172 (dk_at dksX1_off_1 2 rfl rfl)
theorem dX1_off_26 : decode cX1_off 26 = .ok (.aload_n 0, 1) := dk_42 (dk_at dksX1_off_1 3 rfl rfl)
theorem dX1_off_27 : decode cX1_off 27 = .ok (.getfield 31, 3) := dk_180 0 31 (dk_at dksX1_off_1 4 rfl rfl)
theorem dX1_off_30 : decode cX1_off 30 = .ok (.iload_n 1, 1) := dk_27 (dk_at dksX1_off_1 7 rfl rfl)
theorem dX1_off_31 : decode cX1_off 31 = .ok (.invokeinterface 261 2, 5) := by decide +kernel
theorem dX1_off_36 : decode cX1_off 36 = .ok (.checkcast 228, 3) := dk_192 0 228 (dk_at dksX1_off_1 13 rfl rfl)
theorem dX1_off_39 : decode cX1_off 39 = .ok (.astore_n 3, 1) := dk_78 (dk_at dksX1_off_1 16 rfl rfl)
theorem dX1_off_40 : decode cX1_off 40 = .ok (.aload_n 3, 1) := dk_45 (dk_at dksX1_off_1 17 rfl rfl)
theorem dX1_off_41 : decode cX1_off 41 = .ok (.getfield 318, 3) := dk_180 1 62 (dk_at dksX1_off_1 18 rfl rfl)
theorem dX1_off_44 : decode cX1_off 44 = .ok (.bipush 6, 2) := dk_16 6 (dk_at dksX1_off_1 21 rfl rfl)
theorem dX1_off_46 : decode cX1_off 46 = .ok (.if_icmp .le 6, 3) := dk_164 0 6 (dk_at dksX1_off_2 0 rfl rfl)
theorem dX1_off_49 : decode cX1_off 49 = .ok (.bipush (-104), 2) := dk_16 152 (dk_at dksX1_off_2 3 rfl rfl)
theorem dX1_off_51 : decode cX1_off 51 = .ok (.ireturn, 1) := dk_172 (dk_at dksX1_off_2 5 rfl rfl)
theorem dX1_off_52 : decode cX1_off 52 = .ok (.aload_n 0, 1) := dk_42 (dk_at dksX1_off_2 6 rfl rfl)
theorem dX1_off_53 : decode cX1_off 53 = .ok (.getfield 22, 3) := dk_180 0 22 (dk_at dksX1_off_2 7 rfl rfl)
theorem dX1_off_56 : decode cX1_off 56 = .ok (.invokevirtual 148, 3) := dk_182 0 148 (dk_at dksX1_off_2 10 rfl rfl)
theorem dX1_off_59 : decode cX1_off 59 = .ok (.aload_n 0, 1) := dk_42 (dk_at dksX1_off_2 13 rfl rfl)
theorem dX1_off_60 : decode cX1_off 60 = .ok (.getfield 25, 3) := dk_180 0 25 (dk_at dksX1_off_2 14 rfl rfl)
theorem dX1_off_63 : decode cX1_off 63 = .ok (.invokevirtual 148, 3) := dk_182 0 148 (dk_at dksX1_off_2 17 rfl rfl)
theorem dX1_off_66 : decode cX1_off 66 = .ok (.aload_n 0, 1) := dk_42 (dk_at dksX1_off_2 20 rfl rfl)
theorem dX1_off_67 : decode cX1_off 67 = .ok (.getfield 25, 3) := dk_180 0 25 (dk_at dksX1_off_2 21 rfl rfl)
theorem dX1_off_70 : decode cX1_off 70 = .ok (.dconst 1, 1) := dk_15 (dk_at dksX1_off_3 0 rfl rfl)
theorem dX1_off_71 : decode cX1_off 71 = .ok (.iconst 0, 1) := dk_3 (dk_at dksX1_off_3 1 rfl rfl)
theorem dX1_off_72 : decode cX1_off 72 = .ok (.invokevirtual 151, 3) := dk_182 0 151 (dk_at dksX1_off_3 2 rfl rfl)
theorem dX1_off_75 : decode cX1_off 75 = .ok (.iconst 0, 1) := dk_3 (dk_at dksX1_off_3 5 rfl rfl)
theorem dX1_off_76 : decode cX1_off 76 = .ok (.istore 4, 2) := dk_54 4 (dk_at dksX1_off_3 6 rfl rfl)
theorem dX1_off_78 : decode cX1_off 78 = .ok (.iload 4, 2) := dk_21 4 (dk_at dksX1_off_3 8 rfl rfl)
theorem dX1_off_80 : decode cX1_off 80 = .ok (.aload_n 3, 1) := dk_45 (dk_at dksX1_off_3 10 rfl rfl)
theorem dX1_off_81 : decode cX1_off 81 = .ok (.getfield 265, 3) := dk_180 1 9 (dk_at dksX1_off_3 11 rfl rfl)
theorem dX1_off_84 : decode cX1_off 84 = .ok (.if_icmp .ge 119, 3) := dk_162 0 119 (dk_at dksX1_off_3 14 rfl rfl)
theorem dX1_off_87 : decode cX1_off 87 = .ok (.iload 4, 2) := dk_21 4 (dk_at dksX1_off_3 17 rfl rfl)
theorem dX1_off_89 : decode cX1_off 89 = .ok (.ifCond .ne 17, 3) := dk_154 0 17 (dk_at dksX1_off_3 19 rfl rfl)
theorem dX1_off_92 : decode cX1_off 92 = .ok (.aload_n 0, 1) := dk_42 (dk_at dksX1_off_3 22 rfl rfl)
theorem dX1_off_93 : decode cX1_off 93 = .ok (.getfield 22, 3) := dk_180 0 22 (dk_at dksX1_off_4 0 rfl rfl)
theorem dX1_off_96 : decode cX1_off 96 = .ok (.aload_n 3, 1) := dk_45 (dk_at dksX1_off_4 3 rfl rfl)
theorem dX1_off_97 : decode cX1_off 97 = .ok (.getfield 272, 3) := dk_180 1 16 (dk_at dksX1_off_4 4 rfl rfl)
theorem dX1_off_100 : decode cX1_off 100 = .ok (.iconst 0, 1) := dk_3 (dk_at dksX1_off_4 7 rfl rfl)
theorem dX1_off_101 : decode cX1_off 101 = .ok (.daload, 1) := dk_49 (dk_at dksX1_off_4 8 rfl rfl)
theorem dX1_off_102 : decode cX1_off 102 = .ok (.iconst 0, 1) := dk_3 (dk_at dksX1_off_4 9 rfl rfl)
theorem dX1_off_103 : decode cX1_off 103 = .ok (.invokevirtual 151, 3) := dk_182 0 151 (dk_at dksX1_off_4 10 rfl rfl)
theorem dX1_off_106 : decode cX1_off 106 = .ok (.aload_n 0, 1) := dk_42 (dk_at dksX1_off_4 13 rfl rfl)
theorem dX1_off_107 : decode cX1_off 107 = .ok (.getfield 22, 3) := dk_180 0 22 (dk_at dksX1_off_4 14 rfl rfl)
theorem dX1_off_110 : decode cX1_off 110 = .ok (.aload_n 3, 1) := dk_45 (dk_at dksX1_off_4 17 rfl rfl)
theorem dX1_off_111 : decode cX1_off 111 = .ok (.getfield 276, 3) := dk_180 1 20 (dk_at dksX1_off_4 18 rfl rfl)
theorem dX1_off_114 : decode cX1_off 114 = .ok (.iload 4, 2) := dk_21 4 (dk_at dksX1_off_4 21 rfl rfl)
theorem dX1_off_116 : decode cX1_off 116 = .ok (.daload, 1) := dk_49 (dk_at dksX1_off_4 23 rfl rfl)
theorem dX1_off_117 : decode cX1_off 117 = .ok (.iconst 0, 1) := dk_3 (dk_at dksX1_off_5 0 rfl rfl)
theorem dX1_off_118 : decode cX1_off 118 = .ok (.invokevirtual 151, 3) := dk_182 0 151 (dk_at dksX1_off_5 1 rfl rfl)
theorem dX1_off_121 : decode cX1_off 121 = .ok (.aload_n 0, 1) := dk_42 (dk_at dksX1_off_5 4 rfl rfl)
theorem dX1_off_122 : decode cX1_off 122 = .ok (.getfield 18, 3) := dk_180 0 18 (dk_at dksX1_off_5 5 rfl rfl)
theorem dX1_off_125 : decode cX1_off 125 = .ok (.aload_n 0, 1) := dk_42 (dk_at dksX1_off_5 8 rfl rfl)
theorem dX1_off_126 : decode cX1_off 126 = .ok (.getfield 22, 3) := dk_180 0 22 (dk_at dksX1_off_5 9 rfl rfl)
theorem dX1_off_129 : decode cX1_off 129 = .ok (.invokevirtual 314, 3) := dk_182 1 58 (dk_at dksX1_off_5 12 rfl rfl)
theorem dX1_off_132 : decode cX1_off 132 = .ok (.aload_n 0, 1) := dk_42 (dk_at dksX1_off_5 15 rfl rfl)
theorem dX1_off_133 : decode cX1_off 133 = .ok (.getfield 18, 3) := dk_180 0 18 (dk_at dksX1_off_5 16 rfl rfl)
theorem dX1_off_136 : decode cX1_off 136 = .ok (.aload_n 3, 1) := dk_45 (dk_at dksX1_off_5 19 rfl rfl)
theorem dX1_off_137 : decode cX1_off 137 = .ok (.getfield 279, 3) := dk_180 1 23 (dk_at dksX1_off_5 20 rfl rfl)
theorem dX1_off_140 : decode cX1_off 140 = .ok (.iload 4, 2) := dk_21 4 (dk_at dksX1_off_6 0 rfl rfl)
theorem dX1_off_142 : decode cX1_off 142 = .ok (.daload, 1) := dk_49 (dk_at dksX1_off_6 2 rfl rfl)
theorem dX1_off_143 : decode cX1_off 143 = .ok (.iconst 1, 1) := dk_4 (dk_at dksX1_off_6 3 rfl rfl)
theorem dX1_off_144 : decode cX1_off 144 = .ok (.invokevirtual 151, 3) := dk_182 0 151 (dk_at dksX1_off_6 4 rfl rfl)
theorem dX1_off_147 : decode cX1_off 147 = .ok (.aload_n 0, 1) := dk_42 (dk_at dksX1_off_6 7 rfl rfl)
theorem dX1_off_148 : decode cX1_off 148 = .ok (.getfield 18, 3) := dk_180 0 18 (dk_at dksX1_off_6 8 rfl rfl)
theorem dX1_off_151 : decode cX1_off 151 = .ok (.invokevirtual 304, 3) := dk_182 1 48 (dk_at dksX1_off_6 11 rfl rfl)
theorem dX1_off_154 : decode cX1_off 154 = .ok (.ifCond .ge 10, 3) := dk_156 0 10 (dk_at dksX1_off_6 14 rfl rfl)
theorem dX1_off_157 : decode cX1_off 157 = .ok (.aload_n 0, 1) := dk_42 (dk_at dksX1_off_6 17 rfl rfl)
theorem dX1_off_158 : decode cX1_off 158 = .ok (.getfield 18, 3) := dk_180 0 18 (dk_at dksX1_off_6 18 rfl rfl)
theorem dX1_off_161 : decode cX1_off 161 = .ok (.invokevirtual 307, 3) := dk_182 1 51 (dk_at dksX1_off_6 21 rfl rfl)
theorem dX1_off_164 : decode cX1_off 164 = .ok (.aload_n 0, 1) := dk_42 (dk_at dksX1_off_7 0 rfl rfl)
theorem dX1_off_165 : decode cX1_off 165 = .ok (.getfield 18, 3) := dk_180 0 18 (dk_at dksX1_off_7 1 rfl rfl)
theorem dX1_off_168 : decode cX1_off 168 = .ok (.ldc2_w 321, 3) := dk_20 1 65 (dk_at dksX1_off_7 4 rfl rfl)
theorem dX1_off_171 : decode cX1_off 171 = .ok (.getstatic 155, 3) := dk_178 0 155 (dk_at dksX1_off_7 7 rfl rfl)
theorem dX1_off_174 : decode cX1_off 174 = .ok (.iload_n 2, 1) := dk_28 (dk_at dksX1_off_7 10 rfl rfl)
theorem dX1_off_175 : decode cX1_off 175 = .ok (.laload, 1) := dk_47 (dk_at dksX1_off_7 11 rfl rfl)
theorem dX1_off_176 : decode cX1_off 176 = .ok (.lmul, 1) := dk_105 (dk_at dksX1_off_7 12 rfl rfl)
theorem dX1_off_177 : decode cX1_off 177 = .ok (.invokevirtual 159, 3) := dk_182 0 159 (dk_at dksX1_off_7 13 rfl rfl)
theorem dX1_off_180 : decode cX1_off 180 = .ok (.aload_n 0, 1) := dk_42 (dk_at dksX1_off_7 16 rfl rfl)
theorem dX1_off_181 : decode cX1_off 181 = .ok (.getfield 18, 3) := dk_180 0 18 (dk_at dksX1_off_7 17 rfl rfl)
theorem dX1_off_184 : decode cX1_off 184 = .ok (.aload_n 0, 1) := dk_42 (dk_at dksX1_off_7 20 rfl rfl)
theorem dX1_off_185 : decode cX1_off 185 = .ok (.getfield 25, 3) := dk_180 0 25 (dk_at dksX1_off_7 21 rfl rfl)
theorem dX1_off_188 : decode cX1_off 188 = .ok (.invokevirtual 310, 3) := dk_182 1 54 (dk_at dksX1_off_8 0 rfl rfl)
theorem dX1_off_191 : decode cX1_off 191 = .ok (.ifCond .lt 6, 3) := dk_155 0 6 (dk_at dksX1_off_8 3 rfl rfl)
theorem dX1_off_194 : decode cX1_off 194 = .ok (.iload 4, 2) := dk_21 4 (dk_at dksX1_off_8 6 rfl rfl)
theorem dX1_off_196 : decode cX1_off 196 = .ok (.ireturn, 1) := dk_172 (dk_at dksX1_off_8 8 rfl rfl)
theorem dX1_off_197 : decode cX1_off 197 = .ok (.iinc 4 1, 3) := dk_132 4 1 (dk_at dksX1_off_8 9 rfl rfl)
theorem dX1_off_200 : decode cX1_off 200 = .ok (.goto (-122), 3) := dk_167 255 134 (dk_at dksX1_off_8 12 rfl rfl)
theorem dX1_off_203 : decode cX1_off 203 = .ok (.iconst (-1), 1) := dk_2 (dk_at dksX1_off_8 15 rfl rfl)
theorem dX1_off_204 : decode cX1_off 204 = .ok (.ireturn, 1) := dk_172 (dk_at dksX1_off_8 16 rfl rfl)
abbrev cX1_parts : ByteArray := prog_1_method_31_code
def yX1_parts : MethodName := ⟨RX1, "parts", "(II)I"⟩
def dkwX1_parts_5 : List UInt8 := [132, 5, 1, 167, 255, 186, 2, 172]
abbrev dktX1_parts_5 : List UInt8 := dkwX1_parts_5 ++ []
def dkwX1_parts_4 : List UInt8 := [182, 1, 13, 25, 4, 25, 4, 180, 1, 23, 21, 5, 49, 182, 1, 13, 148, 153, 0, 6, 21, 5, 172]
abbrev dktX1_parts_4 : List UInt8 := dkwX1_parts_4 ++ dktX1_parts_5
def dkwX1_parts_3 : List UInt8 := [180, 1, 9, 162, 0, 41, 21, 5, 25, 4, 180, 1, 9, 162, 0, 31, 45, 45, 180, 1, 23, 21, 5, 49]
abbrev dktX1_parts_3 : List UInt8 := dkwX1_parts_3 ++ dktX1_parts_4
def dkwX1_parts_2 : List UInt8 := [3, 54, 5, 21, 5, 45, 180, 1, 9, 25, 4, 180, 1, 9, 184, 0, 123, 162, 0, 59, 21, 5, 45]
abbrev dktX1_parts_2 : List UInt8 := dkwX1_parts_2 ++ dktX1_parts_3
def dkwX1_parts_1 : List UInt8 := [185, 1, 5, 2, 0, 192, 0, 228, 78, 42, 180, 0, 31, 28, 185, 1, 5, 2, 0, 192, 0, 228, 58, 4]
abbrev dktX1_parts_1 : List UInt8 := dkwX1_parts_1 ++ dktX1_parts_2
def dkwX1_parts_0 : List UInt8 := [42, 27, 182, 1, 2, 153, 0, 11, 42, 28, 182, 1, 2, 154, 0, 6, 16, 155, 172, 42, 180, 0, 31, 27]
abbrev dktX1_parts_0 : List UInt8 := dkwX1_parts_0 ++ dktX1_parts_1
theorem dksX1_parts_0 : cX1_parts.data.toList.drop 0 = dktX1_parts_0 := by decide +kernel
theorem dksX1_parts_1 : cX1_parts.data.toList.drop 24 = dktX1_parts_1 := dk_seg dksX1_parts_0 24 rfl rfl
theorem dksX1_parts_2 : cX1_parts.data.toList.drop 48 = dktX1_parts_2 := dk_seg dksX1_parts_1 24 rfl rfl
theorem dksX1_parts_3 : cX1_parts.data.toList.drop 71 = dktX1_parts_3 := dk_seg dksX1_parts_2 23 rfl rfl
theorem dksX1_parts_4 : cX1_parts.data.toList.drop 95 = dktX1_parts_4 := dk_seg dksX1_parts_3 24 rfl rfl
theorem dksX1_parts_5 : cX1_parts.data.toList.drop 118 = dktX1_parts_5 := dk_seg dksX1_parts_4 23 rfl rfl
theorem dX1_parts_0 : decode cX1_parts 0 = .ok (.aload_n 0, 1) := dk_42 (dk_at dksX1_parts_0 0 rfl rfl)
theorem dX1_parts_1 : decode cX1_parts 1 = .ok (.iload_n 1, 1) := dk_27 (dk_at dksX1_parts_0 1 rfl rfl)
theorem dX1_parts_2 : decode cX1_parts 2 = .ok (.invokevirtual 258, 3) := dk_182 1 2 (dk_at dksX1_parts_0 2 rfl rfl)
theorem dX1_parts_5 : decode cX1_parts 5 = .ok (.ifCond .eq 11, 3) := dk_153 0 11 (dk_at dksX1_parts_0 5 rfl rfl)
theorem dX1_parts_8 : decode cX1_parts 8 = .ok (.aload_n 0, 1) := dk_42 (dk_at dksX1_parts_0 8 rfl rfl)
theorem dX1_parts_9 : decode cX1_parts 9 = .ok (.iload_n 2, 1) := dk_28 (dk_at dksX1_parts_0 9 rfl rfl)
theorem dX1_parts_10 : decode cX1_parts 10 = .ok (.invokevirtual 258, 3) := dk_182 1 2 (dk_at dksX1_parts_0 10 rfl rfl)
theorem dX1_parts_13 : decode cX1_parts 13 = .ok (.ifCond .ne 6, 3) := dk_154 0 6 (dk_at dksX1_parts_0 13 rfl rfl)
theorem dX1_parts_16 : decode cX1_parts 16 = .ok (.bipush (-101), 2) := dk_16 155 (dk_at dksX1_parts_0 16 rfl rfl)
theorem dX1_parts_18 : decode cX1_parts 18 = .ok (.ireturn, 1) := dk_172 (dk_at dksX1_parts_0 18 rfl rfl)
theorem dX1_parts_19 : decode cX1_parts 19 = .ok (.aload_n 0, 1) := dk_42 (dk_at dksX1_parts_0 19 rfl rfl)
theorem dX1_parts_20 : decode cX1_parts 20 = .ok (.getfield 31, 3) := dk_180 0 31 (dk_at dksX1_parts_0 20 rfl rfl)
theorem dX1_parts_23 : decode cX1_parts 23 = .ok (.iload_n 1, 1) := dk_27 (dk_at dksX1_parts_0 23 rfl rfl)
theorem dX1_parts_24 : decode cX1_parts 24 = .ok (.invokeinterface 261 2, 5) := by decide +kernel
theorem dX1_parts_29 : decode cX1_parts 29 = .ok (.checkcast 228, 3) := dk_192 0 228 (dk_at dksX1_parts_1 5 rfl rfl)
theorem dX1_parts_32 : decode cX1_parts 32 = .ok (.astore_n 3, 1) := dk_78 (dk_at dksX1_parts_1 8 rfl rfl)
theorem dX1_parts_33 : decode cX1_parts 33 = .ok (.aload_n 0, 1) := dk_42 (dk_at dksX1_parts_1 9 rfl rfl)
theorem dX1_parts_34 : decode cX1_parts 34 = .ok (.getfield 31, 3) := dk_180 0 31 (dk_at dksX1_parts_1 10 rfl rfl)
theorem dX1_parts_37 : decode cX1_parts 37 = .ok (.iload_n 2, 1) := dk_28 (dk_at dksX1_parts_1 13 rfl rfl)
theorem dX1_parts_38 : decode cX1_parts 38 = .ok (.invokeinterface 261 2, 5) := by decide +kernel
theorem dX1_parts_43 : decode cX1_parts 43 = .ok (.checkcast 228, 3) := dk_192 0 228 (dk_at dksX1_parts_1 19 rfl rfl)
theorem dX1_parts_46 : decode cX1_parts 46 = .ok (.astore 4, 2) := dk_58 4 (dk_at dksX1_parts_1 22 rfl rfl)
theorem dX1_parts_48 : decode cX1_parts 48 = .ok (.iconst 0, 1) := dk_3 (dk_at dksX1_parts_2 0 rfl rfl)
theorem dX1_parts_49 : decode cX1_parts 49 = .ok (.istore 5, 2) := dk_54 5 (dk_at dksX1_parts_2 1 rfl rfl)
theorem dX1_parts_51 : decode cX1_parts 51 = .ok (.iload 5, 2) := dk_21 5 (dk_at dksX1_parts_2 3 rfl rfl)
theorem dX1_parts_53 : decode cX1_parts 53 = .ok (.aload_n 3, 1) := dk_45 (dk_at dksX1_parts_2 5 rfl rfl)
theorem dX1_parts_54 : decode cX1_parts 54 = .ok (.getfield 265, 3) := dk_180 1 9 (dk_at dksX1_parts_2 6 rfl rfl)
theorem dX1_parts_57 : decode cX1_parts 57 = .ok (.aload 4, 2) := dk_25 4 (dk_at dksX1_parts_2 9 rfl rfl)
theorem dX1_parts_59 : decode cX1_parts 59 = .ok (.getfield 265, 3) := dk_180 1 9 (dk_at dksX1_parts_2 11 rfl rfl)
theorem dX1_parts_62 : decode cX1_parts 62 = .ok (.invokestatic 123, 3) := dk_184 0 123 (dk_at dksX1_parts_2 14 rfl rfl)
theorem dX1_parts_65 : decode cX1_parts 65 = .ok (.if_icmp .ge 59, 3) := dk_162 0 59 (dk_at dksX1_parts_2 17 rfl rfl)
theorem dX1_parts_68 : decode cX1_parts 68 = .ok (.iload 5, 2) := dk_21 5 (dk_at dksX1_parts_2 20 rfl rfl)
theorem dX1_parts_70 : decode cX1_parts 70 = .ok (.aload_n 3, 1) := dk_45 (dk_at dksX1_parts_2 22 rfl rfl)
theorem dX1_parts_71 : decode cX1_parts 71 = .ok (.getfield 265, 3) := dk_180 1 9 (dk_at dksX1_parts_3 0 rfl rfl)
theorem dX1_parts_74 : decode cX1_parts 74 = .ok (.if_icmp .ge 41, 3) := dk_162 0 41 (dk_at dksX1_parts_3 3 rfl rfl)
theorem dX1_parts_77 : decode cX1_parts 77 = .ok (.iload 5, 2) := dk_21 5 (dk_at dksX1_parts_3 6 rfl rfl)
theorem dX1_parts_79 : decode cX1_parts 79 = .ok (.aload 4, 2) := dk_25 4 (dk_at dksX1_parts_3 8 rfl rfl)
theorem dX1_parts_81 : decode cX1_parts 81 = .ok (.getfield 265, 3) := dk_180 1 9 (dk_at dksX1_parts_3 10 rfl rfl)
theorem dX1_parts_84 : decode cX1_parts 84 = .ok (.if_icmp .ge 31, 3) := dk_162 0 31 (dk_at dksX1_parts_3 13 rfl rfl)
theorem dX1_parts_87 : decode cX1_parts 87 = .ok (.aload_n 3, 1) := dk_45 (dk_at dksX1_parts_3 16 rfl rfl)
theorem dX1_parts_88 : decode cX1_parts 88 = .ok (.aload_n 3, 1) := dk_45 (dk_at dksX1_parts_3 17 rfl rfl)
theorem dX1_parts_89 : decode cX1_parts 89 = .ok (.getfield 279, 3) := dk_180 1 23 (dk_at dksX1_parts_3 18 rfl rfl)
theorem dX1_parts_92 : decode cX1_parts 92 = .ok (.iload 5, 2) := dk_21 5 (dk_at dksX1_parts_3 21 rfl rfl)
theorem dX1_parts_94 : decode cX1_parts 94 = .ok (.daload, 1) := dk_49 (dk_at dksX1_parts_3 23 rfl rfl)
theorem dX1_parts_95 : decode cX1_parts 95 = .ok (.invokevirtual 269, 3) := dk_182 1 13 (dk_at dksX1_parts_4 0 rfl rfl)
theorem dX1_parts_98 : decode cX1_parts 98 = .ok (.aload 4, 2) := dk_25 4 (dk_at dksX1_parts_4 3 rfl rfl)
theorem dX1_parts_100 : decode cX1_parts 100 = .ok (.aload 4, 2) := dk_25 4 (dk_at dksX1_parts_4 5 rfl rfl)
theorem dX1_parts_102 : decode cX1_parts 102 = .ok (.getfield 279, 3) := dk_180 1 23 (dk_at dksX1_parts_4 7 rfl rfl)
theorem dX1_parts_105 : decode cX1_parts 105 = .ok (.iload 5, 2) := dk_21 5 (dk_at dksX1_parts_4 10 rfl rfl)
theorem dX1_parts_107 : decode cX1_parts 107 = .ok (.daload, 1) := dk_49 (dk_at dksX1_parts_4 12 rfl rfl)
theorem dX1_parts_108 : decode cX1_parts 108 = .ok (.invokevirtual 269, 3) := dk_182 1 13 (dk_at dksX1_parts_4 13 rfl rfl)
theorem dX1_parts_111 : decode cX1_parts 111 = .ok (.lcmp, 1) := dk_148 (dk_at dksX1_parts_4 16 rfl rfl)
theorem dX1_parts_112 : decode cX1_parts 112 = .ok (.ifCond .eq 6, 3) := dk_153 0 6 (dk_at dksX1_parts_4 17 rfl rfl)
theorem dX1_parts_115 : decode cX1_parts 115 = .ok (.iload 5, 2) := dk_21 5 (dk_at dksX1_parts_4 20 rfl rfl)
theorem dX1_parts_117 : decode cX1_parts 117 = .ok (.ireturn, 1) := dk_172 (dk_at dksX1_parts_4 22 rfl rfl)
theorem dX1_parts_118 : decode cX1_parts 118 = .ok (.iinc 5 1, 3) := dk_132 5 1 (dk_at dksX1_parts_5 0 rfl rfl)
theorem dX1_parts_121 : decode cX1_parts 121 = .ok (.goto (-70), 3) := dk_167 255 186 (dk_at dksX1_parts_5 3 rfl rfl)
theorem dX1_parts_124 : decode cX1_parts 124 = .ok (.iconst (-1), 1) := dk_2 (dk_at dksX1_parts_5 6 rfl rfl)
theorem dX1_parts_125 : decode cX1_parts 125 = .ok (.ireturn, 1) := dk_172 (dk_at dksX1_parts_5 7 rfl rfl)
abbrev cX1_clear : ByteArray := prog_1_method_32_code
def yX1_clear : MethodName := ⟨RX1, "clear", "()I"⟩
def dkwX1_clear_0 : List UInt8 := [42, 180, 0, 31, 185, 0, 250, 1, 0, 60, 42, 180, 0, 31, 185, 1, 67, 1, 0, 27, 172]
abbrev dktX1_clear_0 : List UInt8 := dkwX1_clear_0 ++ []
theorem dksX1_clear_0 : cX1_clear.data.toList.drop 0 = dktX1_clear_0 := by decide +kernel
theorem dX1_clear_0 : decode cX1_clear 0 = .ok (.aload_n 0, 1) := dk_42 (dk_at dksX1_clear_0 0 rfl rfl)
theorem dX1_clear_1 : decode cX1_clear 1 = .ok (.getfield 31, 3) := dk_180 0 31 (dk_at dksX1_clear_0 1 rfl rfl)
theorem dX1_clear_4 : decode cX1_clear 4 = .ok (.invokeinterface 250 1, 5) := by decide +kernel
theorem dX1_clear_9 : decode cX1_clear 9 = .ok (.istore_n 1, 1) := dk_60 (dk_at dksX1_clear_0 9 rfl rfl)
theorem dX1_clear_10 : decode cX1_clear 10 = .ok (.aload_n 0, 1) := dk_42 (dk_at dksX1_clear_0 10 rfl rfl)
theorem dX1_clear_11 : decode cX1_clear 11 = .ok (.getfield 31, 3) := dk_180 0 31 (dk_at dksX1_clear_0 11 rfl rfl)
theorem dX1_clear_14 : decode cX1_clear 14 = .ok (.invokeinterface 323 1, 5) := by decide +kernel
theorem dX1_clear_19 : decode cX1_clear 19 = .ok (.iload_n 1, 1) := dk_27 (dk_at dksX1_clear_0 19 rfl rfl)
theorem dX1_clear_20 : decode cX1_clear 20 = .ok (.ireturn, 1) := dk_172 (dk_at dksX1_clear_0 20 rfl rfl)
abbrev cX1_cured : ByteArray := prog_1_method_44_code
def yX1_cured : MethodName := ⟨RX1, "cured", "(I)I"⟩
def dkwX1_cured_2 : List UInt8 := [154, 0, 9, 132, 3, 1, 167, 255, 245, 29, 172]
abbrev dktX1_cured_2 : List UInt8 := dkwX1_cured_2 ++ []
def dkwX1_cured_1 : List UInt8 := [132, 3, 1, 167, 255, 238, 27, 155, 0, 7, 28, 154, 0, 5, 2, 172, 3, 62, 28, 29, 122, 4, 126]
abbrev dktX1_cured_1 : List UInt8 := dkwX1_cured_1 ++ dktX1_cured_2
def dkwX1_cured_0 : List UInt8 := [42, 180, 1, 124, 61, 3, 62, 29, 27, 162, 0, 19, 28, 153, 0, 15, 28, 28, 4, 100, 126, 61]
abbrev dktX1_cured_0 : List UInt8 := dkwX1_cured_0 ++ dktX1_cured_1
theorem dksX1_cured_0 : cX1_cured.data.toList.drop 0 = dktX1_cured_0 := by decide +kernel
theorem dksX1_cured_1 : cX1_cured.data.toList.drop 22 = dktX1_cured_1 := dk_seg dksX1_cured_0 22 rfl rfl
theorem dksX1_cured_2 : cX1_cured.data.toList.drop 45 = dktX1_cured_2 := dk_seg dksX1_cured_1 23 rfl rfl
theorem dX1_cured_0 : decode cX1_cured 0 = .ok (.aload_n 0, 1) := dk_42 (dk_at dksX1_cured_0 0 rfl rfl)
theorem dX1_cured_1 : decode cX1_cured 1 = .ok (.getfield 380, 3) := dk_180 1 124 (dk_at dksX1_cured_0 1 rfl rfl)
theorem dX1_cured_4 : decode cX1_cured 4 = .ok (.istore_n 2, 1) := dk_61 (dk_at dksX1_cured_0 4 rfl rfl)
theorem dX1_cured_5 : decode cX1_cured 5 = .ok (.iconst 0, 1) := dk_3 (dk_at dksX1_cured_0 5 rfl rfl)
theorem dX1_cured_6 : decode cX1_cured 6 = .ok (.istore_n 3, 1) := dk_62 (dk_at dksX1_cured_0 6 rfl rfl)
theorem dX1_cured_7 : decode cX1_cured 7 = .ok (.iload_n 3, 1) := dk_29 (dk_at dksX1_cured_0 7 rfl rfl)
theorem dX1_cured_8 : decode cX1_cured 8 = .ok (.iload_n 1, 1) := dk_27 (dk_at dksX1_cured_0 8 rfl rfl)
theorem dX1_cured_9 : decode cX1_cured 9 = .ok (.if_icmp .ge 19, 3) := dk_162 0 19 (dk_at dksX1_cured_0 9 rfl rfl)
theorem dX1_cured_12 : decode cX1_cured 12 = .ok (.iload_n 2, 1) := dk_28 (dk_at dksX1_cured_0 12 rfl rfl)
theorem dX1_cured_13 : decode cX1_cured 13 = .ok (.ifCond .eq 15, 3) := dk_153 0 15 (dk_at dksX1_cured_0 13 rfl rfl)
theorem dX1_cured_16 : decode cX1_cured 16 = .ok (.iload_n 2, 1) := dk_28 (dk_at dksX1_cured_0 16 rfl rfl)
theorem dX1_cured_17 : decode cX1_cured 17 = .ok (.iload_n 2, 1) := dk_28 (dk_at dksX1_cured_0 17 rfl rfl)
theorem dX1_cured_18 : decode cX1_cured 18 = .ok (.iconst 1, 1) := dk_4 (dk_at dksX1_cured_0 18 rfl rfl)
theorem dX1_cured_19 : decode cX1_cured 19 = .ok (.isub, 1) := dk_100 (dk_at dksX1_cured_0 19 rfl rfl)
theorem dX1_cured_20 : decode cX1_cured 20 = .ok (.iand, 1) := dk_126 (dk_at dksX1_cured_0 20 rfl rfl)
theorem dX1_cured_21 : decode cX1_cured 21 = .ok (.istore_n 2, 1) := dk_61 (dk_at dksX1_cured_0 21 rfl rfl)
theorem dX1_cured_22 : decode cX1_cured 22 = .ok (.iinc 3 1, 3) := dk_132 3 1 (dk_at dksX1_cured_1 0 rfl rfl)
theorem dX1_cured_25 : decode cX1_cured 25 = .ok (.goto (-18), 3) := dk_167 255 238 (dk_at dksX1_cured_1 3 rfl rfl)
theorem dX1_cured_28 : decode cX1_cured 28 = .ok (.iload_n 1, 1) := dk_27 (dk_at dksX1_cured_1 6 rfl rfl)
theorem dX1_cured_29 : decode cX1_cured 29 = .ok (.ifCond .lt 7, 3) := dk_155 0 7 (dk_at dksX1_cured_1 7 rfl rfl)
theorem dX1_cured_32 : decode cX1_cured 32 = .ok (.iload_n 2, 1) := dk_28 (dk_at dksX1_cured_1 10 rfl rfl)
theorem dX1_cured_33 : decode cX1_cured 33 = .ok (.ifCond .ne 5, 3) := dk_154 0 5 (dk_at dksX1_cured_1 11 rfl rfl)
theorem dX1_cured_36 : decode cX1_cured 36 = .ok (.iconst (-1), 1) := dk_2 (dk_at dksX1_cured_1 14 rfl rfl)
theorem dX1_cured_37 : decode cX1_cured 37 = .ok (.ireturn, 1) := dk_172 (dk_at dksX1_cured_1 15 rfl rfl)
theorem dX1_cured_38 : decode cX1_cured 38 = .ok (.iconst 0, 1) := dk_3 (dk_at dksX1_cured_1 16 rfl rfl)
theorem dX1_cured_39 : decode cX1_cured 39 = .ok (.istore_n 3, 1) := dk_62 (dk_at dksX1_cured_1 17 rfl rfl)
theorem dX1_cured_40 : decode cX1_cured 40 = .ok (.iload_n 2, 1) := dk_28 (dk_at dksX1_cured_1 18 rfl rfl)
theorem dX1_cured_41 : decode cX1_cured 41 = .ok (.iload_n 3, 1) := dk_29 (dk_at dksX1_cured_1 19 rfl rfl)
theorem dX1_cured_42 : decode cX1_cured 42 = .ok (.ishr, 1) := dk_122 (dk_at dksX1_cured_1 20 rfl rfl)
theorem dX1_cured_43 : decode cX1_cured 43 = .ok (.iconst 1, 1) := dk_4 (dk_at dksX1_cured_1 21 rfl rfl)
theorem dX1_cured_44 : decode cX1_cured 44 = .ok (.iand, 1) := dk_126 (dk_at dksX1_cured_1 22 rfl rfl)
theorem dX1_cured_45 : decode cX1_cured 45 = .ok (.ifCond .ne 9, 3) := dk_154 0 9 (dk_at dksX1_cured_2 0 rfl rfl)
theorem dX1_cured_48 : decode cX1_cured 48 = .ok (.iinc 3 1, 3) := dk_132 3 1 (dk_at dksX1_cured_2 3 rfl rfl)
theorem dX1_cured_51 : decode cX1_cured 51 = .ok (.goto (-11), 3) := dk_167 255 245 (dk_at dksX1_cured_2 6 rfl rfl)
theorem dX1_cured_54 : decode cX1_cured 54 = .ok (.iload_n 3, 1) := dk_29 (dk_at dksX1_cured_2 9 rfl rfl)
theorem dX1_cured_55 : decode cX1_cured 55 = .ok (.ireturn, 1) := dk_172 (dk_at dksX1_cured_2 10 rfl rfl)
abbrev cX1_share : ByteArray := prog_1_method_48_code
def yX1_share : MethodName := ⟨RX1, "share", "(I)I"⟩
def dkwX1_share_0 : List UInt8 := [27, 133, 9, 20, 0, 55, 184, 0, 57, 153, 0, 12, 42, 180, 0, 35, 27, 46, 167, 0, 5, 16, 154, 172]
abbrev dktX1_share_0 : List UInt8 := dkwX1_share_0 ++ []
theorem dksX1_share_0 : cX1_share.data.toList.drop 0 = dktX1_share_0 := by decide +kernel
theorem dX1_share_0 : decode cX1_share 0 = .ok (.iload_n 1, 1) := dk_27 (dk_at dksX1_share_0 0 rfl rfl)
theorem dX1_share_1 : decode cX1_share 1 = .ok (.i2l, 1) := dk_133 (dk_at dksX1_share_0 1 rfl rfl)
theorem dX1_share_2 : decode cX1_share 2 = .ok (.lconst 0, 1) := dk_9 (dk_at dksX1_share_0 2 rfl rfl)
theorem dX1_share_3 : decode cX1_share 3 = .ok (.ldc2_w 55, 3) := dk_20 0 55 (dk_at dksX1_share_0 3 rfl rfl)
theorem dX1_share_6 : decode cX1_share 6 = .ok (.invokestatic 57, 3) := dk_184 0 57 (dk_at dksX1_share_0 6 rfl rfl)
theorem dX1_share_9 : decode cX1_share 9 = .ok (.ifCond .eq 12, 3) := dk_153 0 12 (dk_at dksX1_share_0 9 rfl rfl)
theorem dX1_share_12 : decode cX1_share 12 = .ok (.aload_n 0, 1) := dk_42 (dk_at dksX1_share_0 12 rfl rfl)
theorem dX1_share_13 : decode cX1_share 13 = .ok (.getfield 35, 3) := dk_180 0 35 (dk_at dksX1_share_0 13 rfl rfl)
theorem dX1_share_16 : decode cX1_share 16 = .ok (.iload_n 1, 1) := dk_27 (dk_at dksX1_share_0 16 rfl rfl)
theorem dX1_share_17 : decode cX1_share 17 = .ok (.iaload, 1) := dk_46 (dk_at dksX1_share_0 17 rfl rfl)
theorem dX1_share_18 : decode cX1_share 18 = .ok (.goto 5, 3) := dk_167 0 5 (dk_at dksX1_share_0 18 rfl rfl)
theorem dX1_share_21 : decode cX1_share 21 = .ok (.bipush (-102), 2) := dk_16 154 (dk_at dksX1_share_0 21 rfl rfl)
theorem dX1_share_23 : decode cX1_share 23 = .ok (.ireturn, 1) := dk_172 (dk_at dksX1_share_0 23 rfl rfl)
abbrev cX1_ledger : ByteArray := prog_1_method_4_code
def yX1_ledger : MethodName := ⟨RX1, "ledger", "(IZI)I"⟩
def dkwX1_ledger_1 : List UInt8 := [184, 0, 47, 83, 29, 172]
abbrev dktX1_ledger_1 : List UInt8 := dkwX1_ledger_1 ++ []
def dkwX1_ledger_0 : List UInt8 := [42, 180, 0, 11, 27, 50, 58, 4, 29, 16, 60, 164, 0, 6, 16, 154, 172, 42, 180, 0, 11, 27, 28, 29]
abbrev dktX1_ledger_0 : List UInt8 := dkwX1_ledger_0 ++ dktX1_ledger_1
theorem dksX1_ledger_0 : cX1_ledger.data.toList.drop 0 = dktX1_ledger_0 := by decide +kernel
theorem dksX1_ledger_1 : cX1_ledger.data.toList.drop 24 = dktX1_ledger_1 := dk_seg dksX1_ledger_0 24 rfl rfl
theorem dX1_ledger_0 : decode cX1_ledger 0 = .ok (.aload_n 0, 1) := dk_42 (dk_at dksX1_ledger_0 0 rfl rfl)
theorem dX1_ledger_1 : decode cX1_ledger 1 = .ok (.getfield 11, 3) := dk_180 0 11 (dk_at dksX1_ledger_0 1 rfl rfl)
theorem dX1_ledger_4 : decode cX1_ledger 4 = .ok (.iload_n 1, 1) := dk_27 (dk_at dksX1_ledger_0 4 rfl rfl)
theorem dX1_ledger_5 : decode cX1_ledger 5 = .ok (.aaload, 1) := dk_50 (dk_at dksX1_ledger_0 5 rfl rfl)
theorem dX1_ledger_6 : decode cX1_ledger 6 = .ok (.astore 4, 2) := dk_58 4 (dk_at dksX1_ledger_0 6 rfl rfl)
theorem dX1_ledger_8 : decode cX1_ledger 8 = .ok (.iload_n 3, 1) := dk_29 (dk_at dksX1_ledger_0 8 rfl rfl)
theorem dX1_ledger_9 : decode cX1_ledger 9 = .ok (.bipush 60, 2) := dk_16 60 (dk_at dksX1_ledger_0 9 rfl rfl)
theorem dX1_ledger_11 : decode cX1_ledger 11 = .ok (.if_icmp .le 6, 3) := dk_164 0 6 (dk_at dksX1_ledger_0 11 rfl rfl)
theorem dX1_ledger_14 : decode cX1_ledger 14 = .ok (.bipush (-102), 2) := dk_16 154 (dk_at dksX1_ledger_0 14 rfl rfl)
theorem dX1_ledger_16 : decode cX1_ledger 16 = .ok (.ireturn, 1) := dk_172 (dk_at dksX1_ledger_0 16 rfl rfl)
theorem dX1_ledger_17 : decode cX1_ledger 17 = .ok (.aload_n 0, 1) := dk_42 (dk_at dksX1_ledger_0 17 rfl rfl)
theorem dX1_ledger_18 : decode cX1_ledger 18 = .ok (.getfield 11, 3) := dk_180 0 11 (dk_at dksX1_ledger_0 18 rfl rfl)
theorem dX1_ledger_21 : decode cX1_ledger 21 = .ok (.iload_n 1, 1) := dk_27 (dk_at dksX1_ledger_0 21 rfl rfl)
theorem dX1_ledger_22 : decode cX1_ledger 22 = .ok (.iload_n 2, 1) := dk_28 (dk_at dksX1_ledger_0 22 rfl rfl)
theorem dX1_ledger_23 : decode cX1_ledger 23 = .ok (.iload_n 3, 1) := dk_29 (dk_at dksX1_ledger_0 23 rfl rfl)
theorem dX1_ledger_24 : decode cX1_ledger 24 = .ok (.invokestatic 47, 3) := dk_184 0 47 (dk_at dksX1_ledger_1 0 rfl rfl)
theorem dX1_ledger_27 : decode cX1_ledger 27 = .ok (.aastore, 1) := dk_83 (dk_at dksX1_ledger_1 3 rfl rfl)
theorem dX1_ledger_28 : decode cX1_ledger 28 = .ok (.iload_n 3, 1) := dk_29 (dk_at dksX1_ledger_1 4 rfl rfl)
theorem dX1_ledger_29 : decode cX1_ledger 29 = .ok (.ireturn, 1) := dk_172 (dk_at dksX1_ledger_1 5 rfl rfl)
abbrev cX1_made : ByteArray := prog_1_method_3_code
def yX1_made : MethodName := ⟨RX1, "made", "(ZI)LRoundingAuditor$Ledger;"⟩
def dkwX1_made_0 : List UInt8 := [26, 153, 0, 14, 187, 0, 39, 89, 27, 183, 0, 41, 167, 0, 11, 187, 0, 44, 89, 27, 183, 0, 46, 176]
abbrev dktX1_made_0 : List UInt8 := dkwX1_made_0 ++ []
theorem dksX1_made_0 : cX1_made.data.toList.drop 0 = dktX1_made_0 := by decide +kernel
theorem dX1_made_0 : decode cX1_made 0 = .ok (.iload_n 0, 1) := dk_26 (dk_at dksX1_made_0 0 rfl rfl)
theorem dX1_made_1 : decode cX1_made 1 = .ok (.ifCond .eq 14, 3) := dk_153 0 14 (dk_at dksX1_made_0 1 rfl rfl)
theorem dX1_made_4 : decode cX1_made 4 = .ok (.new 39, 3) := dk_187 0 39 (dk_at dksX1_made_0 4 rfl rfl)
theorem dX1_made_7 : decode cX1_made 7 = .ok (.dup, 1) := dk_89 (dk_at dksX1_made_0 7 rfl rfl)
theorem dX1_made_8 : decode cX1_made 8 = .ok (.iload_n 1, 1) := dk_27 (dk_at dksX1_made_0 8 rfl rfl)
theorem dX1_made_9 : decode cX1_made 9 = .ok (.invokespecial 41, 3) := dk_183 0 41 (dk_at dksX1_made_0 9 rfl rfl)
theorem dX1_made_12 : decode cX1_made 12 = .ok (.goto 11, 3) := dk_167 0 11 (dk_at dksX1_made_0 12 rfl rfl)
theorem dX1_made_15 : decode cX1_made 15 = .ok (.new 44, 3) := dk_187 0 44 (dk_at dksX1_made_0 15 rfl rfl)
theorem dX1_made_18 : decode cX1_made 18 = .ok (.dup, 1) := dk_89 (dk_at dksX1_made_0 18 rfl rfl)
theorem dX1_made_19 : decode cX1_made 19 = .ok (.iload_n 1, 1) := dk_27 (dk_at dksX1_made_0 19 rfl rfl)
theorem dX1_made_20 : decode cX1_made 20 = .ok (.invokespecial 46, 3) := dk_183 0 46 (dk_at dksX1_made_0 20 rfl rfl)
theorem dX1_made_23 : decode cX1_made 23 = .ok (.areturn, 1) := dk_176 (dk_at dksX1_made_0 23 rfl rfl)
abbrev cX1_set : ByteArray := prog_1_method_5_code
def yX1_set : MethodName := ⟨RX1, "set", "(IIJ)I"⟩
def dkwX1_set_0 : List UInt8 := [42, 180, 0, 11, 27, 50, 28, 33, 182, 0, 51, 153, 0, 7, 4, 167, 0, 5, 16, 154, 172]
abbrev dktX1_set_0 : List UInt8 := dkwX1_set_0 ++ []
theorem dksX1_set_0 : cX1_set.data.toList.drop 0 = dktX1_set_0 := by decide +kernel
theorem dX1_set_0 : decode cX1_set 0 = .ok (.aload_n 0, 1) := dk_42 (dk_at dksX1_set_0 0 rfl rfl)
theorem dX1_set_1 : decode cX1_set 1 = .ok (.getfield 11, 3) := dk_180 0 11 (dk_at dksX1_set_0 1 rfl rfl)
theorem dX1_set_4 : decode cX1_set 4 = .ok (.iload_n 1, 1) := dk_27 (dk_at dksX1_set_0 4 rfl rfl)
theorem dX1_set_5 : decode cX1_set 5 = .ok (.aaload, 1) := dk_50 (dk_at dksX1_set_0 5 rfl rfl)
theorem dX1_set_6 : decode cX1_set 6 = .ok (.iload_n 2, 1) := dk_28 (dk_at dksX1_set_0 6 rfl rfl)
theorem dX1_set_7 : decode cX1_set 7 = .ok (.lload_n 3, 1) := dk_33 (dk_at dksX1_set_0 7 rfl rfl)
theorem dX1_set_8 : decode cX1_set 8 = .ok (.invokevirtual 51, 3) := dk_182 0 51 (dk_at dksX1_set_0 8 rfl rfl)
theorem dX1_set_11 : decode cX1_set 11 = .ok (.ifCond .eq 7, 3) := dk_153 0 7 (dk_at dksX1_set_0 11 rfl rfl)
theorem dX1_set_14 : decode cX1_set 14 = .ok (.iconst 1, 1) := dk_4 (dk_at dksX1_set_0 14 rfl rfl)
theorem dX1_set_15 : decode cX1_set 15 = .ok (.goto 5, 3) := dk_167 0 5 (dk_at dksX1_set_0 15 rfl rfl)
theorem dX1_set_18 : decode cX1_set 18 = .ok (.bipush (-102), 2) := dk_16 154 (dk_at dksX1_set_0 18 rfl rfl)
theorem dX1_set_20 : decode cX1_set 20 = .ok (.ireturn, 1) := dk_172 (dk_at dksX1_set_0 20 rfl rfl)
abbrev cX1_book : ByteArray := prog_1_method_6_code
def yX1_book : MethodName := ⟨RX1, "book", "(IIII)I"⟩
def dkwX1_book_1 : List UInt8 := [154, 0, 6, 16, 154, 172, 42, 180, 0, 11, 27, 50, 28, 29, 21, 4, 182, 0, 63, 4, 172]
abbrev dktX1_book_1 : List UInt8 := dkwX1_book_1 ++ []
def dkwX1_book_0 : List UInt8 := [29, 133, 9, 20, 0, 55, 184, 0, 57, 153, 0, 16, 21, 4, 133, 9, 20, 0, 61, 184, 0, 57]
abbrev dktX1_book_0 : List UInt8 := dkwX1_book_0 ++ dktX1_book_1
theorem dksX1_book_0 : cX1_book.data.toList.drop 0 = dktX1_book_0 := by decide +kernel
theorem dksX1_book_1 : cX1_book.data.toList.drop 22 = dktX1_book_1 := dk_seg dksX1_book_0 22 rfl rfl
theorem dX1_book_0 : decode cX1_book 0 = .ok (.iload_n 3, 1) := dk_29 (dk_at dksX1_book_0 0 rfl rfl)
theorem dX1_book_1 : decode cX1_book 1 = .ok (.i2l, 1) := dk_133 (dk_at dksX1_book_0 1 rfl rfl)
theorem dX1_book_2 : decode cX1_book 2 = .ok (.lconst 0, 1) := dk_9 (dk_at dksX1_book_0 2 rfl rfl)
theorem dX1_book_3 : decode cX1_book 3 = .ok (.ldc2_w 55, 3) := dk_20 0 55 (dk_at dksX1_book_0 3 rfl rfl)
theorem dX1_book_6 : decode cX1_book 6 = .ok (.invokestatic 57, 3) := dk_184 0 57 (dk_at dksX1_book_0 6 rfl rfl)
theorem dX1_book_9 : decode cX1_book 9 = .ok (.ifCond .eq 16, 3) := dk_153 0 16 (dk_at dksX1_book_0 9 rfl rfl)
theorem dX1_book_12 : decode cX1_book 12 = .ok (.iload 4, 2) := dk_21 4 (dk_at dksX1_book_0 12 rfl rfl)
theorem dX1_book_14 : decode cX1_book 14 = .ok (.i2l, 1) := dk_133 (dk_at dksX1_book_0 14 rfl rfl)
theorem dX1_book_15 : decode cX1_book 15 = .ok (.lconst 0, 1) := dk_9 (dk_at dksX1_book_0 15 rfl rfl)
theorem dX1_book_16 : decode cX1_book 16 = .ok (.ldc2_w 61, 3) := dk_20 0 61 (dk_at dksX1_book_0 16 rfl rfl)
theorem dX1_book_19 : decode cX1_book 19 = .ok (.invokestatic 57, 3) := dk_184 0 57 (dk_at dksX1_book_0 19 rfl rfl)
theorem dX1_book_22 : decode cX1_book 22 = .ok (.ifCond .ne 6, 3) := dk_154 0 6 (dk_at dksX1_book_1 0 rfl rfl)
theorem dX1_book_25 : decode cX1_book 25 = .ok (.bipush (-102), 2) := dk_16 154 (dk_at dksX1_book_1 3 rfl rfl)
theorem dX1_book_27 : decode cX1_book 27 = .ok (.ireturn, 1) := dk_172 (dk_at dksX1_book_1 5 rfl rfl)
theorem dX1_book_28 : decode cX1_book 28 = .ok (.aload_n 0, 1) := dk_42 (dk_at dksX1_book_1 6 rfl rfl)
theorem dX1_book_29 : decode cX1_book 29 = .ok (.getfield 11, 3) := dk_180 0 11 (dk_at dksX1_book_1 7 rfl rfl)
theorem dX1_book_32 : decode cX1_book 32 = .ok (.iload_n 1, 1) := dk_27 (dk_at dksX1_book_1 10 rfl rfl)
theorem dX1_book_33 : decode cX1_book 33 = .ok (.aaload, 1) := dk_50 (dk_at dksX1_book_1 11 rfl rfl)
theorem dX1_book_34 : decode cX1_book 34 = .ok (.iload_n 2, 1) := dk_28 (dk_at dksX1_book_1 12 rfl rfl)
theorem dX1_book_35 : decode cX1_book 35 = .ok (.iload_n 3, 1) := dk_29 (dk_at dksX1_book_1 13 rfl rfl)
theorem dX1_book_36 : decode cX1_book 36 = .ok (.iload 4, 2) := dk_21 4 (dk_at dksX1_book_1 14 rfl rfl)
theorem dX1_book_38 : decode cX1_book 38 = .ok (.invokevirtual 63, 3) := dk_182 0 63 (dk_at dksX1_book_1 16 rfl rfl)
theorem dX1_book_41 : decode cX1_book 41 = .ok (.iconst 1, 1) := dk_4 (dk_at dksX1_book_1 19 rfl rfl)
theorem dX1_book_42 : decode cX1_book 42 = .ok (.ireturn, 1) := dk_172 (dk_at dksX1_book_1 20 rfl rfl)
abbrev cX1_amount : ByteArray := prog_1_method_7_code
def yX1_amount : MethodName := ⟨RX1, "amount", "(II)J"⟩
def dkwX1_amount_0 : List UInt8 := [42, 180, 0, 11, 27, 50, 78, 45, 45, 28, 182, 0, 67, 182, 0, 71, 173]
abbrev dktX1_amount_0 : List UInt8 := dkwX1_amount_0 ++ []
theorem dksX1_amount_0 : cX1_amount.data.toList.drop 0 = dktX1_amount_0 := by decide +kernel
theorem dX1_amount_0 : decode cX1_amount 0 = .ok (.aload_n 0, 1) := dk_42 (dk_at dksX1_amount_0 0 rfl rfl)
theorem dX1_amount_1 : decode cX1_amount 1 = .ok (.getfield 11, 3) := dk_180 0 11 (dk_at dksX1_amount_0 1 rfl rfl)
theorem dX1_amount_4 : decode cX1_amount 4 = .ok (.iload_n 1, 1) := dk_27 (dk_at dksX1_amount_0 4 rfl rfl)
theorem dX1_amount_5 : decode cX1_amount 5 = .ok (.aaload, 1) := dk_50 (dk_at dksX1_amount_0 5 rfl rfl)
theorem dX1_amount_6 : decode cX1_amount 6 = .ok (.astore_n 3, 1) := dk_78 (dk_at dksX1_amount_0 6 rfl rfl)
theorem dX1_amount_7 : decode cX1_amount 7 = .ok (.aload_n 3, 1) := dk_45 (dk_at dksX1_amount_0 7 rfl rfl)
theorem dX1_amount_8 : decode cX1_amount 8 = .ok (.aload_n 3, 1) := dk_45 (dk_at dksX1_amount_0 8 rfl rfl)
theorem dX1_amount_9 : decode cX1_amount 9 = .ok (.iload_n 2, 1) := dk_28 (dk_at dksX1_amount_0 9 rfl rfl)
theorem dX1_amount_10 : decode cX1_amount 10 = .ok (.invokevirtual 67, 3) := dk_182 0 67 (dk_at dksX1_amount_0 10 rfl rfl)
theorem dX1_amount_13 : decode cX1_amount 13 = .ok (.invokevirtual 71, 3) := dk_182 0 71 (dk_at dksX1_amount_0 13 rfl rfl)
theorem dX1_amount_16 : decode cX1_amount 16 = .ok (.lreturn, 1) := dk_173 (dk_at dksX1_amount_0 16 rfl rfl)
abbrev cX1_entry : ByteArray := prog_1_method_8_code
def yX1_entry : MethodName := ⟨RX1, "entry", "(III)I"⟩
def dkwX1_entry_1 : List UInt8 := [167, 0, 19, 29, 4, 160, 0, 12, 25, 4, 28, 182, 0, 79, 167, 0, 5, 16, 154, 172]
abbrev dktX1_entry_1 : List UInt8 := dkwX1_entry_1 ++ []
def dkwX1_entry_0 : List UInt8 := [42, 180, 0, 11, 27, 50, 58, 4, 25, 4, 28, 182, 0, 75, 54, 5, 29, 154, 0, 8, 21, 5]
abbrev dktX1_entry_0 : List UInt8 := dkwX1_entry_0 ++ dktX1_entry_1
theorem dksX1_entry_0 : cX1_entry.data.toList.drop 0 = dktX1_entry_0 := by decide +kernel
theorem dksX1_entry_1 : cX1_entry.data.toList.drop 22 = dktX1_entry_1 := dk_seg dksX1_entry_0 22 rfl rfl
theorem dX1_entry_0 : decode cX1_entry 0 = .ok (.aload_n 0, 1) := dk_42 (dk_at dksX1_entry_0 0 rfl rfl)
theorem dX1_entry_1 : decode cX1_entry 1 = .ok (.getfield 11, 3) := dk_180 0 11 (dk_at dksX1_entry_0 1 rfl rfl)
theorem dX1_entry_4 : decode cX1_entry 4 = .ok (.iload_n 1, 1) := dk_27 (dk_at dksX1_entry_0 4 rfl rfl)
theorem dX1_entry_5 : decode cX1_entry 5 = .ok (.aaload, 1) := dk_50 (dk_at dksX1_entry_0 5 rfl rfl)
theorem dX1_entry_6 : decode cX1_entry 6 = .ok (.astore 4, 2) := dk_58 4 (dk_at dksX1_entry_0 6 rfl rfl)
theorem dX1_entry_8 : decode cX1_entry 8 = .ok (.aload 4, 2) := dk_25 4 (dk_at dksX1_entry_0 8 rfl rfl)
theorem dX1_entry_10 : decode cX1_entry 10 = .ok (.iload_n 2, 1) := dk_28 (dk_at dksX1_entry_0 10 rfl rfl)
theorem dX1_entry_11 : decode cX1_entry 11 = .ok (.invokevirtual 75, 3) := dk_182 0 75 (dk_at dksX1_entry_0 11 rfl rfl)
theorem dX1_entry_14 : decode cX1_entry 14 = .ok (.istore 5, 2) := dk_54 5 (dk_at dksX1_entry_0 14 rfl rfl)
theorem dX1_entry_16 : decode cX1_entry 16 = .ok (.iload_n 3, 1) := dk_29 (dk_at dksX1_entry_0 16 rfl rfl)
theorem dX1_entry_17 : decode cX1_entry 17 = .ok (.ifCond .ne 8, 3) := dk_154 0 8 (dk_at dksX1_entry_0 17 rfl rfl)
theorem dX1_entry_20 : decode cX1_entry 20 = .ok (.iload 5, 2) := dk_21 5 (dk_at dksX1_entry_0 20 rfl rfl)
theorem dX1_entry_22 : decode cX1_entry 22 = .ok (.goto 19, 3) := dk_167 0 19 (dk_at dksX1_entry_1 0 rfl rfl)
theorem dX1_entry_25 : decode cX1_entry 25 = .ok (.iload_n 3, 1) := dk_29 (dk_at dksX1_entry_1 3 rfl rfl)
theorem dX1_entry_26 : decode cX1_entry 26 = .ok (.iconst 1, 1) := dk_4 (dk_at dksX1_entry_1 4 rfl rfl)
theorem dX1_entry_27 : decode cX1_entry 27 = .ok (.if_icmp .ne 12, 3) := dk_160 0 12 (dk_at dksX1_entry_1 5 rfl rfl)
theorem dX1_entry_30 : decode cX1_entry 30 = .ok (.aload 4, 2) := dk_25 4 (dk_at dksX1_entry_1 8 rfl rfl)
theorem dX1_entry_32 : decode cX1_entry 32 = .ok (.iload_n 2, 1) := dk_28 (dk_at dksX1_entry_1 10 rfl rfl)
theorem dX1_entry_33 : decode cX1_entry 33 = .ok (.invokevirtual 79, 3) := dk_182 0 79 (dk_at dksX1_entry_1 11 rfl rfl)
theorem dX1_entry_36 : decode cX1_entry 36 = .ok (.goto 5, 3) := dk_167 0 5 (dk_at dksX1_entry_1 14 rfl rfl)
theorem dX1_entry_39 : decode cX1_entry 39 = .ok (.bipush (-102), 2) := dk_16 154 (dk_at dksX1_entry_1 17 rfl rfl)
theorem dX1_entry_41 : decode cX1_entry 41 = .ok (.ireturn, 1) := dk_172 (dk_at dksX1_entry_1 19 rfl rfl)
abbrev cX1_about : ByteArray := prog_1_method_10_code
def yX1_about : MethodName := ⟨RX1, "about", "(II)I"⟩
def dkwX1_about_4 : List UInt8 := [132, 6, 1, 167, 255, 222, 21, 5, 172]
abbrev dktX1_about_4 : List UInt8 := dkwX1_about_4 ++ []
def dkwX1_about_3 : List UInt8 := [45, 45, 21, 6, 182, 0, 67, 28, 184, 0, 109, 153, 0, 7, 4, 167, 0, 4, 3, 96, 54, 5]
abbrev dktX1_about_3 : List UInt8 := dkwX1_about_3 ++ dktX1_about_4
def dkwX1_about_2 : List UInt8 := [153, 0, 7, 4, 167, 0, 4, 3, 172, 3, 54, 5, 3, 54, 6, 21, 6, 21, 4, 162, 0, 33, 21, 5]
abbrev dktX1_about_2 : List UInt8 := dkwX1_about_2 ++ dktX1_about_3
def dkwX1_about_1 : List UInt8 := [182, 0, 101, 54, 4, 28, 5, 162, 0, 25, 28, 154, 0, 8, 21, 4, 167, 0, 15, 45, 182, 0, 105]
abbrev dktX1_about_1 : List UInt8 := dkwX1_about_1 ++ dktX1_about_2
def dkwX1_about_0 : List UInt8 := [28, 133, 9, 20, 0, 99, 184, 0, 57, 154, 0, 6, 16, 154, 172, 42, 180, 0, 11, 27, 50, 78, 45]
abbrev dktX1_about_0 : List UInt8 := dkwX1_about_0 ++ dktX1_about_1
theorem dksX1_about_0 : cX1_about.data.toList.drop 0 = dktX1_about_0 := by decide +kernel
theorem dksX1_about_1 : cX1_about.data.toList.drop 23 = dktX1_about_1 := dk_seg dksX1_about_0 23 rfl rfl
theorem dksX1_about_2 : cX1_about.data.toList.drop 46 = dktX1_about_2 := dk_seg dksX1_about_1 23 rfl rfl
theorem dksX1_about_3 : cX1_about.data.toList.drop 70 = dktX1_about_3 := dk_seg dksX1_about_2 24 rfl rfl
theorem dksX1_about_4 : cX1_about.data.toList.drop 92 = dktX1_about_4 := dk_seg dksX1_about_3 22 rfl rfl
theorem dX1_about_0 : decode cX1_about 0 = .ok (.iload_n 2, 1) := dk_28 (dk_at dksX1_about_0 0 rfl rfl)
theorem dX1_about_1 : decode cX1_about 1 = .ok (.i2l, 1) := dk_133 (dk_at dksX1_about_0 1 rfl rfl)
theorem dX1_about_2 : decode cX1_about 2 = .ok (.lconst 0, 1) := dk_9 (dk_at dksX1_about_0 2 rfl rfl)
theorem dX1_about_3 : decode cX1_about 3 = .ok (.ldc2_w 99, 3) := dk_20 0 99 (dk_at dksX1_about_0 3 rfl rfl)
theorem dX1_about_6 : decode cX1_about 6 = .ok (.invokestatic 57, 3) := dk_184 0 57 (dk_at dksX1_about_0 6 rfl rfl)
theorem dX1_about_9 : decode cX1_about 9 = .ok (.ifCond .ne 6, 3) := dk_154 0 6 (dk_at dksX1_about_0 9 rfl rfl)
theorem dX1_about_12 : decode cX1_about 12 = .ok (.bipush (-102), 2) := dk_16 154 (dk_at dksX1_about_0 12 rfl rfl)
theorem dX1_about_14 : decode cX1_about 14 = .ok (.ireturn, 1) := dk_172 (dk_at dksX1_about_0 14 rfl rfl)
theorem dX1_about_15 : decode cX1_about 15 = .ok (.aload_n 0, 1) := dk_42 (dk_at dksX1_about_0 15 rfl rfl)
theorem dX1_about_16 : decode cX1_about 16 = .ok (.getfield 11, 3) := dk_180 0 11 (dk_at dksX1_about_0 16 rfl rfl)
theorem dX1_about_19 : decode cX1_about 19 = .ok (.iload_n 1, 1) := dk_27 (dk_at dksX1_about_0 19 rfl rfl)
theorem dX1_about_20 : decode cX1_about 20 = .ok (.aaload, 1) := dk_50 (dk_at dksX1_about_0 20 rfl rfl)
theorem dX1_about_21 : decode cX1_about 21 = .ok (.astore_n 3, 1) := dk_78 (dk_at dksX1_about_0 21 rfl rfl)
theorem dX1_about_22 : decode cX1_about 22 = .ok (.aload_n 3, 1) := dk_45 (dk_at dksX1_about_0 22 rfl rfl)
theorem dX1_about_23 : decode cX1_about 23 = .ok (.invokevirtual 101, 3) := dk_182 0 101 (dk_at dksX1_about_1 0 rfl rfl)
theorem dX1_about_26 : decode cX1_about 26 = .ok (.istore 4, 2) := dk_54 4 (dk_at dksX1_about_1 3 rfl rfl)
theorem dX1_about_28 : decode cX1_about 28 = .ok (.iload_n 2, 1) := dk_28 (dk_at dksX1_about_1 5 rfl rfl)
theorem dX1_about_29 : decode cX1_about 29 = .ok (.iconst 2, 1) := dk_5 (dk_at dksX1_about_1 6 rfl rfl)
theorem dX1_about_30 : decode cX1_about 30 = .ok (.if_icmp .ge 25, 3) := dk_162 0 25 (dk_at dksX1_about_1 7 rfl rfl)
theorem dX1_about_33 : decode cX1_about 33 = .ok (.iload_n 2, 1) := dk_28 (dk_at dksX1_about_1 10 rfl rfl)
theorem dX1_about_34 : decode cX1_about 34 = .ok (.ifCond .ne 8, 3) := dk_154 0 8 (dk_at dksX1_about_1 11 rfl rfl)
theorem dX1_about_37 : decode cX1_about 37 = .ok (.iload 4, 2) := dk_21 4 (dk_at dksX1_about_1 14 rfl rfl)
theorem dX1_about_39 : decode cX1_about 39 = .ok (.goto 15, 3) := dk_167 0 15 (dk_at dksX1_about_1 16 rfl rfl)
theorem dX1_about_42 : decode cX1_about 42 = .ok (.aload_n 3, 1) := dk_45 (dk_at dksX1_about_1 19 rfl rfl)
theorem dX1_about_43 : decode cX1_about 43 = .ok (.invokevirtual 105, 3) := dk_182 0 105 (dk_at dksX1_about_1 20 rfl rfl)
theorem dX1_about_46 : decode cX1_about 46 = .ok (.ifCond .eq 7, 3) := dk_153 0 7 (dk_at dksX1_about_2 0 rfl rfl)
theorem dX1_about_49 : decode cX1_about 49 = .ok (.iconst 1, 1) := dk_4 (dk_at dksX1_about_2 3 rfl rfl)
theorem dX1_about_50 : decode cX1_about 50 = .ok (.goto 4, 3) := dk_167 0 4 (dk_at dksX1_about_2 4 rfl rfl)
theorem dX1_about_53 : decode cX1_about 53 = .ok (.iconst 0, 1) := dk_3 (dk_at dksX1_about_2 7 rfl rfl)
theorem dX1_about_54 : decode cX1_about 54 = .ok (.ireturn, 1) := dk_172 (dk_at dksX1_about_2 8 rfl rfl)
theorem dX1_about_55 : decode cX1_about 55 = .ok (.iconst 0, 1) := dk_3 (dk_at dksX1_about_2 9 rfl rfl)
theorem dX1_about_56 : decode cX1_about 56 = .ok (.istore 5, 2) := dk_54 5 (dk_at dksX1_about_2 10 rfl rfl)
theorem dX1_about_58 : decode cX1_about 58 = .ok (.iconst 0, 1) := dk_3 (dk_at dksX1_about_2 12 rfl rfl)
theorem dX1_about_59 : decode cX1_about 59 = .ok (.istore 6, 2) := dk_54 6 (dk_at dksX1_about_2 13 rfl rfl)
theorem dX1_about_61 : decode cX1_about 61 = .ok (.iload 6, 2) := dk_21 6 (dk_at dksX1_about_2 15 rfl rfl)
theorem dX1_about_63 : decode cX1_about 63 = .ok (.iload 4, 2) := dk_21 4 (dk_at dksX1_about_2 17 rfl rfl)
theorem dX1_about_65 : decode cX1_about 65 = .ok (.if_icmp .ge 33, 3) := dk_162 0 33 (dk_at dksX1_about_2 19 rfl rfl)
theorem dX1_about_68 : decode cX1_about 68 = .ok (.iload 5, 2) := dk_21 5 (dk_at dksX1_about_2 22 rfl rfl)
theorem dX1_about_70 : decode cX1_about 70 = .ok (.aload_n 3, 1) := dk_45 (dk_at dksX1_about_3 0 rfl rfl)
theorem dX1_about_71 : decode cX1_about 71 = .ok (.aload_n 3, 1) := dk_45 (dk_at dksX1_about_3 1 rfl rfl)
theorem dX1_about_72 : decode cX1_about 72 = .ok (.iload 6, 2) := dk_21 6 (dk_at dksX1_about_3 2 rfl rfl)
theorem dX1_about_74 : decode cX1_about 74 = .ok (.invokevirtual 67, 3) := dk_182 0 67 (dk_at dksX1_about_3 4 rfl rfl)
theorem dX1_about_77 : decode cX1_about 77 = .ok (.iload_n 2, 1) := dk_28 (dk_at dksX1_about_3 7 rfl rfl)
theorem dX1_about_78 : decode cX1_about 78 = .ok (.invokestatic 109, 3) := dk_184 0 109 (dk_at dksX1_about_3 8 rfl rfl)
theorem dX1_about_81 : decode cX1_about 81 = .ok (.ifCond .eq 7, 3) := dk_153 0 7 (dk_at dksX1_about_3 11 rfl rfl)
theorem dX1_about_84 : decode cX1_about 84 = .ok (.iconst 1, 1) := dk_4 (dk_at dksX1_about_3 14 rfl rfl)
theorem dX1_about_85 : decode cX1_about 85 = .ok (.goto 4, 3) := dk_167 0 4 (dk_at dksX1_about_3 15 rfl rfl)
theorem dX1_about_88 : decode cX1_about 88 = .ok (.iconst 0, 1) := dk_3 (dk_at dksX1_about_3 18 rfl rfl)
theorem dX1_about_89 : decode cX1_about 89 = .ok (.iadd, 1) := dk_96 (dk_at dksX1_about_3 19 rfl rfl)
theorem dX1_about_90 : decode cX1_about 90 = .ok (.istore 5, 2) := dk_54 5 (dk_at dksX1_about_3 20 rfl rfl)
theorem dX1_about_92 : decode cX1_about 92 = .ok (.iinc 6 1, 3) := dk_132 6 1 (dk_at dksX1_about_4 0 rfl rfl)
theorem dX1_about_95 : decode cX1_about 95 = .ok (.goto (-34), 3) := dk_167 255 222 (dk_at dksX1_about_4 3 rfl rfl)
theorem dX1_about_98 : decode cX1_about 98 = .ok (.iload 5, 2) := dk_21 5 (dk_at dksX1_about_4 6 rfl rfl)
theorem dX1_about_100 : decode cX1_about 100 = .ok (.ireturn, 1) := dk_172 (dk_at dksX1_about_4 8 rfl rfl)
abbrev cX1_is : ByteArray := prog_1_method_9_code
def yX1_is : MethodName := ⟨RX1, "is", "(LRoundingAuditor$Ledger;DI)Z"⟩
def dkwX1_is_5 : List UInt8 := [21, 4, 154, 0, 19, 39, 184, 0, 92, 42, 182, 0, 95, 152, 156, 0, 7, 4, 167, 0, 4, 3, 172]
abbrev dktX1_is_5 : List UInt8 := dkwX1_is_5 ++ []
def dkwX1_is_4 : List UInt8 := [156, 0, 7, 4, 167, 0, 4, 3, 172, 39, 184, 0, 88, 39, 151, 154, 0, 7, 4, 167, 0, 4, 3, 172]
abbrev dktX1_is_4 : List UInt8 := dkwX1_is_4 ++ dktX1_is_5
def dkwX1_is_3 : List UInt8 := [153, 0, 17, 15, 39, 184, 0, 82, 14, 152, 156, 0, 7, 4, 167, 0, 4, 3, 172, 39, 14, 152]
abbrev dktX1_is_3 : List UInt8 := dkwX1_is_3 ++ dktX1_is_4
def dkwX1_is_2 : List UInt8 := [21, 4, 153, 0, 17, 15, 39, 184, 0, 82, 14, 151, 158, 0, 7, 4, 167, 0, 4, 3, 172, 21, 4]
abbrev dktX1_is_2 : List UInt8 := dkwX1_is_2 ++ dktX1_is_3
def dkwX1_is_1 : List UInt8 := [170, 0, 0, 0, 0, 99, 0, 0, 0, 2, 0, 0, 0, 5, 0, 0, 0, 30, 0, 0, 0, 51, 0, 0, 0, 72, 0, 0, 0, 84]
abbrev dktX1_is_1 : List UInt8 := dkwX1_is_1 ++ dktX1_is_2
def dkwX1_is_0 : List UInt8 := [39, 14, 151, 154, 0, 7, 4, 167, 0, 4, 3, 54, 4, 29]
abbrev dktX1_is_0 : List UInt8 := dkwX1_is_0 ++ dktX1_is_1
theorem dksX1_is_0 : cX1_is.data.toList.drop 0 = dktX1_is_0 := by decide +kernel
theorem dksX1_is_1 : cX1_is.data.toList.drop 14 = dktX1_is_1 := dk_seg dksX1_is_0 14 rfl rfl
theorem dksX1_is_2 : cX1_is.data.toList.drop 44 = dktX1_is_2 := dk_seg dksX1_is_1 30 rfl rfl
theorem dksX1_is_3 : cX1_is.data.toList.drop 67 = dktX1_is_3 := dk_seg dksX1_is_2 23 rfl rfl
theorem dksX1_is_4 : cX1_is.data.toList.drop 89 = dktX1_is_4 := dk_seg dksX1_is_3 22 rfl rfl
theorem dksX1_is_5 : cX1_is.data.toList.drop 113 = dktX1_is_5 := dk_seg dksX1_is_4 24 rfl rfl
theorem dX1_is_0 : decode cX1_is 0 = .ok (.dload_n 1, 1) := dk_39 (dk_at dksX1_is_0 0 rfl rfl)
theorem dX1_is_1 : decode cX1_is 1 = .ok (.dconst 0, 1) := dk_14 (dk_at dksX1_is_0 1 rfl rfl)
theorem dX1_is_2 : decode cX1_is 2 = .ok (.dcmp .l, 1) := dk_151 (dk_at dksX1_is_0 2 rfl rfl)
theorem dX1_is_3 : decode cX1_is 3 = .ok (.ifCond .ne 7, 3) := dk_154 0 7 (dk_at dksX1_is_0 3 rfl rfl)
theorem dX1_is_6 : decode cX1_is 6 = .ok (.iconst 1, 1) := dk_4 (dk_at dksX1_is_0 6 rfl rfl)
theorem dX1_is_7 : decode cX1_is 7 = .ok (.goto 4, 3) := dk_167 0 4 (dk_at dksX1_is_0 7 rfl rfl)
theorem dX1_is_10 : decode cX1_is 10 = .ok (.iconst 0, 1) := dk_3 (dk_at dksX1_is_0 10 rfl rfl)
theorem dX1_is_11 : decode cX1_is 11 = .ok (.istore 4, 2) := dk_54 4 (dk_at dksX1_is_0 11 rfl rfl)
theorem dX1_is_13 : decode cX1_is 13 = .ok (.iload_n 3, 1) := dk_29 (dk_at dksX1_is_0 13 rfl rfl)
theorem dX1_is_14 : decode cX1_is 14 = .ok (.tableswitch 99 2 5 #[30, 51, 72, 84], 30) := by decide +kernel
theorem dX1_is_44 : decode cX1_is 44 = .ok (.iload 4, 2) := dk_21 4 (dk_at dksX1_is_2 0 rfl rfl)
theorem dX1_is_46 : decode cX1_is 46 = .ok (.ifCond .eq 17, 3) := dk_153 0 17 (dk_at dksX1_is_2 2 rfl rfl)
theorem dX1_is_49 : decode cX1_is 49 = .ok (.dconst 1, 1) := dk_15 (dk_at dksX1_is_2 5 rfl rfl)
theorem dX1_is_50 : decode cX1_is 50 = .ok (.dload_n 1, 1) := dk_39 (dk_at dksX1_is_2 6 rfl rfl)
theorem dX1_is_51 : decode cX1_is 51 = .ok (.invokestatic 82, 3) := dk_184 0 82 (dk_at dksX1_is_2 7 rfl rfl)
theorem dX1_is_54 : decode cX1_is 54 = .ok (.dconst 0, 1) := dk_14 (dk_at dksX1_is_2 10 rfl rfl)
theorem dX1_is_55 : decode cX1_is 55 = .ok (.dcmp .l, 1) := dk_151 (dk_at dksX1_is_2 11 rfl rfl)
theorem dX1_is_56 : decode cX1_is 56 = .ok (.ifCond .le 7, 3) := dk_158 0 7 (dk_at dksX1_is_2 12 rfl rfl)
theorem dX1_is_59 : decode cX1_is 59 = .ok (.iconst 1, 1) := dk_4 (dk_at dksX1_is_2 15 rfl rfl)
theorem dX1_is_60 : decode cX1_is 60 = .ok (.goto 4, 3) := dk_167 0 4 (dk_at dksX1_is_2 16 rfl rfl)
theorem dX1_is_63 : decode cX1_is 63 = .ok (.iconst 0, 1) := dk_3 (dk_at dksX1_is_2 19 rfl rfl)
theorem dX1_is_64 : decode cX1_is 64 = .ok (.ireturn, 1) := dk_172 (dk_at dksX1_is_2 20 rfl rfl)
theorem dX1_is_65 : decode cX1_is 65 = .ok (.iload 4, 2) := dk_21 4 (dk_at dksX1_is_2 21 rfl rfl)
theorem dX1_is_67 : decode cX1_is 67 = .ok (.ifCond .eq 17, 3) := dk_153 0 17 (dk_at dksX1_is_3 0 rfl rfl)
theorem dX1_is_70 : decode cX1_is 70 = .ok (.dconst 1, 1) := dk_15 (dk_at dksX1_is_3 3 rfl rfl)
theorem dX1_is_71 : decode cX1_is 71 = .ok (.dload_n 1, 1) := dk_39 (dk_at dksX1_is_3 4 rfl rfl)
theorem dX1_is_72 : decode cX1_is 72 = .ok (.invokestatic 82, 3) := dk_184 0 82 (dk_at dksX1_is_3 5 rfl rfl)
theorem dX1_is_75 : decode cX1_is 75 = .ok (.dconst 0, 1) := dk_14 (dk_at dksX1_is_3 8 rfl rfl)
theorem dX1_is_76 : decode cX1_is 76 = .ok (.dcmp .g, 1) := dk_152 (dk_at dksX1_is_3 9 rfl rfl)
theorem dX1_is_77 : decode cX1_is 77 = .ok (.ifCond .ge 7, 3) := dk_156 0 7 (dk_at dksX1_is_3 10 rfl rfl)
theorem dX1_is_80 : decode cX1_is 80 = .ok (.iconst 1, 1) := dk_4 (dk_at dksX1_is_3 13 rfl rfl)
theorem dX1_is_81 : decode cX1_is 81 = .ok (.goto 4, 3) := dk_167 0 4 (dk_at dksX1_is_3 14 rfl rfl)
theorem dX1_is_84 : decode cX1_is 84 = .ok (.iconst 0, 1) := dk_3 (dk_at dksX1_is_3 17 rfl rfl)
theorem dX1_is_85 : decode cX1_is 85 = .ok (.ireturn, 1) := dk_172 (dk_at dksX1_is_3 18 rfl rfl)
theorem dX1_is_86 : decode cX1_is 86 = .ok (.dload_n 1, 1) := dk_39 (dk_at dksX1_is_3 19 rfl rfl)
theorem dX1_is_87 : decode cX1_is 87 = .ok (.dconst 0, 1) := dk_14 (dk_at dksX1_is_3 20 rfl rfl)
theorem dX1_is_88 : decode cX1_is 88 = .ok (.dcmp .g, 1) := dk_152 (dk_at dksX1_is_3 21 rfl rfl)
theorem dX1_is_89 : decode cX1_is 89 = .ok (.ifCond .ge 7, 3) := dk_156 0 7 (dk_at dksX1_is_4 0 rfl rfl)
theorem dX1_is_92 : decode cX1_is 92 = .ok (.iconst 1, 1) := dk_4 (dk_at dksX1_is_4 3 rfl rfl)
theorem dX1_is_93 : decode cX1_is 93 = .ok (.goto 4, 3) := dk_167 0 4 (dk_at dksX1_is_4 4 rfl rfl)
theorem dX1_is_96 : decode cX1_is 96 = .ok (.iconst 0, 1) := dk_3 (dk_at dksX1_is_4 7 rfl rfl)
theorem dX1_is_97 : decode cX1_is 97 = .ok (.ireturn, 1) := dk_172 (dk_at dksX1_is_4 8 rfl rfl)
theorem dX1_is_98 : decode cX1_is 98 = .ok (.dload_n 1, 1) := dk_39 (dk_at dksX1_is_4 9 rfl rfl)
theorem dX1_is_99 : decode cX1_is 99 = .ok (.invokestatic 88, 3) := dk_184 0 88 (dk_at dksX1_is_4 10 rfl rfl)
theorem dX1_is_102 : decode cX1_is 102 = .ok (.dload_n 1, 1) := dk_39 (dk_at dksX1_is_4 13 rfl rfl)
theorem dX1_is_103 : decode cX1_is 103 = .ok (.dcmp .l, 1) := dk_151 (dk_at dksX1_is_4 14 rfl rfl)
theorem dX1_is_104 : decode cX1_is 104 = .ok (.ifCond .ne 7, 3) := dk_154 0 7 (dk_at dksX1_is_4 15 rfl rfl)
theorem dX1_is_107 : decode cX1_is 107 = .ok (.iconst 1, 1) := dk_4 (dk_at dksX1_is_4 18 rfl rfl)
theorem dX1_is_108 : decode cX1_is 108 = .ok (.goto 4, 3) := dk_167 0 4 (dk_at dksX1_is_4 19 rfl rfl)
theorem dX1_is_111 : decode cX1_is 111 = .ok (.iconst 0, 1) := dk_3 (dk_at dksX1_is_4 22 rfl rfl)
theorem dX1_is_112 : decode cX1_is 112 = .ok (.ireturn, 1) := dk_172 (dk_at dksX1_is_4 23 rfl rfl)
theorem dX1_is_113 : decode cX1_is 113 = .ok (.iload 4, 2) := dk_21 4 (dk_at dksX1_is_5 0 rfl rfl)
theorem dX1_is_115 : decode cX1_is 115 = .ok (.ifCond .ne 19, 3) := dk_154 0 19 (dk_at dksX1_is_5 2 rfl rfl)
theorem dX1_is_118 : decode cX1_is 118 = .ok (.dload_n 1, 1) := dk_39 (dk_at dksX1_is_5 5 rfl rfl)
theorem dX1_is_119 : decode cX1_is 119 = .ok (.invokestatic 92, 3) := dk_184 0 92 (dk_at dksX1_is_5 6 rfl rfl)
theorem dX1_is_122 : decode cX1_is 122 = .ok (.aload_n 0, 1) := dk_42 (dk_at dksX1_is_5 9 rfl rfl)
theorem dX1_is_123 : decode cX1_is 123 = .ok (.invokevirtual 95, 3) := dk_182 0 95 (dk_at dksX1_is_5 10 rfl rfl)
theorem dX1_is_126 : decode cX1_is 126 = .ok (.dcmp .g, 1) := dk_152 (dk_at dksX1_is_5 13 rfl rfl)
theorem dX1_is_127 : decode cX1_is 127 = .ok (.ifCond .ge 7, 3) := dk_156 0 7 (dk_at dksX1_is_5 14 rfl rfl)
theorem dX1_is_130 : decode cX1_is 130 = .ok (.iconst 1, 1) := dk_4 (dk_at dksX1_is_5 17 rfl rfl)
theorem dX1_is_131 : decode cX1_is 131 = .ok (.goto 4, 3) := dk_167 0 4 (dk_at dksX1_is_5 18 rfl rfl)
theorem dX1_is_134 : decode cX1_is 134 = .ok (.iconst 0, 1) := dk_3 (dk_at dksX1_is_5 21 rfl rfl)
theorem dX1_is_135 : decode cX1_is 135 = .ok (.ireturn, 1) := dk_172 (dk_at dksX1_is_5 22 rfl rfl)
abbrev cX1_filter : ByteArray := prog_1_method_11_code
def yX1_filter : MethodName := ⟨RX1, "filter", "(III)I"⟩
def dkwX1_filter_6 : List UInt8 := [167, 255, 213, 42, 180, 0, 11, 27, 25, 7, 83, 21, 6, 172]
abbrev dktX1_filter_6 : List UInt8 := dkwX1_filter_6 ++ []
def dkwX1_filter_5 : List UInt8 := [182, 0, 75, 29, 160, 0, 17, 25, 7, 21, 8, 25, 5, 21, 9, 182, 0, 119, 132, 8, 1, 132, 9, 1]
abbrev dktX1_filter_5 : List UInt8 := dkwX1_filter_5 ++ dktX1_filter_6
def dkwX1_filter_4 : List UInt8 := [54, 8, 3, 54, 9, 21, 9, 25, 5, 182, 0, 101, 162, 0, 39, 29, 2, 159, 0, 14, 25, 5, 21, 9]
abbrev dktX1_filter_4 : List UInt8 := dkwX1_filter_4 ++ dktX1_filter_5
def dkwX1_filter_3 : List UInt8 := [167, 0, 4, 3, 96, 54, 6, 132, 7, 1, 167, 255, 217, 25, 5, 21, 6, 182, 0, 115, 58, 7, 3]
abbrev dktX1_filter_3 : List UInt8 := dkwX1_filter_3 ++ dktX1_filter_4
def dkwX1_filter_2 : List UInt8 := [162, 0, 35, 21, 6, 29, 2, 159, 0, 14, 25, 5, 21, 7, 182, 0, 75, 29, 160, 0, 7, 4]
abbrev dktX1_filter_2 : List UInt8 := dkwX1_filter_2 ++ dktX1_filter_3
def dkwX1_filter_1 : List UInt8 := [58, 4, 42, 180, 0, 11, 28, 50, 58, 5, 3, 54, 6, 3, 54, 7, 21, 7, 25, 5, 182, 0, 101]
abbrev dktX1_filter_1 : List UInt8 := dkwX1_filter_1 ++ dktX1_filter_2
def dkwX1_filter_0 : List UInt8 := [29, 133, 20, 0, 113, 20, 0, 55, 184, 0, 57, 154, 0, 6, 16, 154, 172, 42, 180, 0, 11, 27, 50]
abbrev dktX1_filter_0 : List UInt8 := dkwX1_filter_0 ++ dktX1_filter_1
theorem dksX1_filter_0 : cX1_filter.data.toList.drop 0 = dktX1_filter_0 := by decide +kernel
theorem dksX1_filter_1 : cX1_filter.data.toList.drop 23 = dktX1_filter_1 := dk_seg dksX1_filter_0 23 rfl rfl
theorem dksX1_filter_2 : cX1_filter.data.toList.drop 46 = dktX1_filter_2 := dk_seg dksX1_filter_1 23 rfl rfl
theorem dksX1_filter_3 : cX1_filter.data.toList.drop 68 = dktX1_filter_3 := dk_seg dksX1_filter_2 22 rfl rfl
theorem dksX1_filter_4 : cX1_filter.data.toList.drop 91 = dktX1_filter_4 := dk_seg dksX1_filter_3 23 rfl rfl
theorem dksX1_filter_5 : cX1_filter.data.toList.drop 115 = dktX1_filter_5 := dk_seg dksX1_filter_4 24 rfl rfl
theorem dksX1_filter_6 : cX1_filter.data.toList.drop 139 = dktX1_filter_6 := dk_seg dksX1_filter_5 24 rfl rfl
theorem dX1_filter_0 : decode cX1_filter 0 = .ok (.iload_n 3, 1) := dk_29 (dk_at dksX1_filter_0 0 rfl rfl)
theorem dX1_filter_1 : decode cX1_filter 1 = .ok (.i2l, 1) := dk_133 (dk_at dksX1_filter_0 1 rfl rfl)
theorem dX1_filter_2 : decode cX1_filter 2 = .ok (.ldc2_w 113, 3) := dk_20 0 113 (dk_at dksX1_filter_0 2 rfl rfl)
theorem dX1_filter_5 : decode cX1_filter 5 = .ok (.ldc2_w 55, 3) := dk_20 0 55 (dk_at dksX1_filter_0 5 rfl rfl)
theorem dX1_filter_8 : decode cX1_filter 8 = .ok (.invokestatic 57, 3) := dk_184 0 57 (dk_at dksX1_filter_0 8 rfl rfl)
theorem dX1_filter_11 : decode cX1_filter 11 = .ok (.ifCond .ne 6, 3) := dk_154 0 6 (dk_at dksX1_filter_0 11 rfl rfl)
theorem dX1_filter_14 : decode cX1_filter 14 = .ok (.bipush (-102), 2) := dk_16 154 (dk_at dksX1_filter_0 14 rfl rfl)
theorem dX1_filter_16 : decode cX1_filter 16 = .ok (.ireturn, 1) := dk_172 (dk_at dksX1_filter_0 16 rfl rfl)
theorem dX1_filter_17 : decode cX1_filter 17 = .ok (.aload_n 0, 1) := dk_42 (dk_at dksX1_filter_0 17 rfl rfl)
theorem dX1_filter_18 : decode cX1_filter 18 = .ok (.getfield 11, 3) := dk_180 0 11 (dk_at dksX1_filter_0 18 rfl rfl)
theorem dX1_filter_21 : decode cX1_filter 21 = .ok (.iload_n 1, 1) := dk_27 (dk_at dksX1_filter_0 21 rfl rfl)
theorem dX1_filter_22 : decode cX1_filter 22 = .ok (.aaload, 1) := dk_50 (dk_at dksX1_filter_0 22 rfl rfl)
theorem dX1_filter_23 : decode cX1_filter 23 = .ok (.astore 4, 2) := dk_58 4 (dk_at dksX1_filter_1 0 rfl rfl)
theorem dX1_filter_25 : decode cX1_filter 25 = .ok (.aload_n 0, 1) := dk_42 (dk_at dksX1_filter_1 2 rfl rfl)
theorem dX1_filter_26 : decode cX1_filter 26 = .ok (.getfield 11, 3) := dk_180 0 11 (dk_at dksX1_filter_1 3 rfl rfl)
theorem dX1_filter_29 : decode cX1_filter 29 = .ok (.iload_n 2, 1) := dk_28 (dk_at dksX1_filter_1 6 rfl rfl)
theorem dX1_filter_30 : decode cX1_filter 30 = .ok (.aaload, 1) := dk_50 (dk_at dksX1_filter_1 7 rfl rfl)
theorem dX1_filter_31 : decode cX1_filter 31 = .ok (.astore 5, 2) := dk_58 5 (dk_at dksX1_filter_1 8 rfl rfl)
theorem dX1_filter_33 : decode cX1_filter 33 = .ok (.iconst 0, 1) := dk_3 (dk_at dksX1_filter_1 10 rfl rfl)
theorem dX1_filter_34 : decode cX1_filter 34 = .ok (.istore 6, 2) := dk_54 6 (dk_at dksX1_filter_1 11 rfl rfl)
theorem dX1_filter_36 : decode cX1_filter 36 = .ok (.iconst 0, 1) := dk_3 (dk_at dksX1_filter_1 13 rfl rfl)
theorem dX1_filter_37 : decode cX1_filter 37 = .ok (.istore 7, 2) := dk_54 7 (dk_at dksX1_filter_1 14 rfl rfl)
theorem dX1_filter_39 : decode cX1_filter 39 = .ok (.iload 7, 2) := dk_21 7 (dk_at dksX1_filter_1 16 rfl rfl)
theorem dX1_filter_41 : decode cX1_filter 41 = .ok (.aload 5, 2) := dk_25 5 (dk_at dksX1_filter_1 18 rfl rfl)
theorem dX1_filter_43 : decode cX1_filter 43 = .ok (.invokevirtual 101, 3) := dk_182 0 101 (dk_at dksX1_filter_1 20 rfl rfl)
theorem dX1_filter_46 : decode cX1_filter 46 = .ok (.if_icmp .ge 35, 3) := dk_162 0 35 (dk_at dksX1_filter_2 0 rfl rfl)
theorem dX1_filter_49 : decode cX1_filter 49 = .ok (.iload 6, 2) := dk_21 6 (dk_at dksX1_filter_2 3 rfl rfl)
theorem dX1_filter_51 : decode cX1_filter 51 = .ok (.iload_n 3, 1) := dk_29 (dk_at dksX1_filter_2 5 rfl rfl)
theorem dX1_filter_52 : decode cX1_filter 52 = .ok (.iconst (-1), 1) := dk_2 (dk_at dksX1_filter_2 6 rfl rfl)
theorem dX1_filter_53 : decode cX1_filter 53 = .ok (.if_icmp .eq 14, 3) := dk_159 0 14 (dk_at dksX1_filter_2 7 rfl rfl)
theorem dX1_filter_56 : decode cX1_filter 56 = .ok (.aload 5, 2) := dk_25 5 (dk_at dksX1_filter_2 10 rfl rfl)
theorem dX1_filter_58 : decode cX1_filter 58 = .ok (.iload 7, 2) := dk_21 7 (dk_at dksX1_filter_2 12 rfl rfl)
theorem dX1_filter_60 : decode cX1_filter 60 = .ok (.invokevirtual 75, 3) := dk_182 0 75 (dk_at dksX1_filter_2 14 rfl rfl)
theorem dX1_filter_63 : decode cX1_filter 63 = .ok (.iload_n 3, 1) := dk_29 (dk_at dksX1_filter_2 17 rfl rfl)
theorem dX1_filter_64 : decode cX1_filter 64 = .ok (.if_icmp .ne 7, 3) := dk_160 0 7 (dk_at dksX1_filter_2 18 rfl rfl)
theorem dX1_filter_67 : decode cX1_filter 67 = .ok (.iconst 1, 1) := dk_4 (dk_at dksX1_filter_2 21 rfl rfl)
theorem dX1_filter_68 : decode cX1_filter 68 = .ok (.goto 4, 3) := dk_167 0 4 (dk_at dksX1_filter_3 0 rfl rfl)
theorem dX1_filter_71 : decode cX1_filter 71 = .ok (.iconst 0, 1) := dk_3 (dk_at dksX1_filter_3 3 rfl rfl)
theorem dX1_filter_72 : decode cX1_filter 72 = .ok (.iadd, 1) := dk_96 (dk_at dksX1_filter_3 4 rfl rfl)
theorem dX1_filter_73 : decode cX1_filter 73 = .ok (.istore 6, 2) := dk_54 6 (dk_at dksX1_filter_3 5 rfl rfl)
theorem dX1_filter_75 : decode cX1_filter 75 = .ok (.iinc 7 1, 3) := dk_132 7 1 (dk_at dksX1_filter_3 7 rfl rfl)
theorem dX1_filter_78 : decode cX1_filter 78 = .ok (.goto (-39), 3) := dk_167 255 217 (dk_at dksX1_filter_3 10 rfl rfl)
theorem dX1_filter_81 : decode cX1_filter 81 = .ok (.aload 5, 2) := dk_25 5 (dk_at dksX1_filter_3 13 rfl rfl)
theorem dX1_filter_83 : decode cX1_filter 83 = .ok (.iload 6, 2) := dk_21 6 (dk_at dksX1_filter_3 15 rfl rfl)
theorem dX1_filter_85 : decode cX1_filter 85 = .ok (.invokevirtual 115, 3) := dk_182 0 115 (dk_at dksX1_filter_3 17 rfl rfl)
theorem dX1_filter_88 : decode cX1_filter 88 = .ok (.astore 7, 2) := dk_58 7 (dk_at dksX1_filter_3 20 rfl rfl)
theorem dX1_filter_90 : decode cX1_filter 90 = .ok (.iconst 0, 1) := dk_3 (dk_at dksX1_filter_3 22 rfl rfl)
theorem dX1_filter_91 : decode cX1_filter 91 = .ok (.istore 8, 2) := dk_54 8 (dk_at dksX1_filter_4 0 rfl rfl)
theorem dX1_filter_93 : decode cX1_filter 93 = .ok (.iconst 0, 1) := dk_3 (dk_at dksX1_filter_4 2 rfl rfl)
theorem dX1_filter_94 : decode cX1_filter 94 = .ok (.istore 9, 2) := dk_54 9 (dk_at dksX1_filter_4 3 rfl rfl)
theorem dX1_filter_96 : decode cX1_filter 96 = .ok (.iload 9, 2) := dk_21 9 (dk_at dksX1_filter_4 5 rfl rfl)
theorem dX1_filter_98 : decode cX1_filter 98 = .ok (.aload 5, 2) := dk_25 5 (dk_at dksX1_filter_4 7 rfl rfl)
theorem dX1_filter_100 : decode cX1_filter 100 = .ok (.invokevirtual 101, 3) := dk_182 0 101 (dk_at dksX1_filter_4 9 rfl rfl)
theorem dX1_filter_103 : decode cX1_filter 103 = .ok (.if_icmp .ge 39, 3) := dk_162 0 39 (dk_at dksX1_filter_4 12 rfl rfl)
theorem dX1_filter_106 : decode cX1_filter 106 = .ok (.iload_n 3, 1) := dk_29 (dk_at dksX1_filter_4 15 rfl rfl)
theorem dX1_filter_107 : decode cX1_filter 107 = .ok (.iconst (-1), 1) := dk_2 (dk_at dksX1_filter_4 16 rfl rfl)
theorem dX1_filter_108 : decode cX1_filter 108 = .ok (.if_icmp .eq 14, 3) := dk_159 0 14 (dk_at dksX1_filter_4 17 rfl rfl)
theorem dX1_filter_111 : decode cX1_filter 111 = .ok (.aload 5, 2) := dk_25 5 (dk_at dksX1_filter_4 20 rfl rfl)
theorem dX1_filter_113 : decode cX1_filter 113 = .ok (.iload 9, 2) := dk_21 9 (dk_at dksX1_filter_4 22 rfl rfl)
theorem dX1_filter_115 : decode cX1_filter 115 = .ok (.invokevirtual 75, 3) := dk_182 0 75 (dk_at dksX1_filter_5 0 rfl rfl)
theorem dX1_filter_118 : decode cX1_filter 118 = .ok (.iload_n 3, 1) := dk_29 (dk_at dksX1_filter_5 3 rfl rfl)
theorem dX1_filter_119 : decode cX1_filter 119 = .ok (.if_icmp .ne 17, 3) := dk_160 0 17 (dk_at dksX1_filter_5 4 rfl rfl)
theorem dX1_filter_122 : decode cX1_filter 122 = .ok (.aload 7, 2) := dk_25 7 (dk_at dksX1_filter_5 7 rfl rfl)
theorem dX1_filter_124 : decode cX1_filter 124 = .ok (.iload 8, 2) := dk_21 8 (dk_at dksX1_filter_5 9 rfl rfl)
theorem dX1_filter_126 : decode cX1_filter 126 = .ok (.aload 5, 2) := dk_25 5 (dk_at dksX1_filter_5 11 rfl rfl)
theorem dX1_filter_128 : decode cX1_filter 128 = .ok (.iload 9, 2) := dk_21 9 (dk_at dksX1_filter_5 13 rfl rfl)
theorem dX1_filter_130 : decode cX1_filter 130 = .ok (.invokevirtual 119, 3) := dk_182 0 119 (dk_at dksX1_filter_5 15 rfl rfl)
theorem dX1_filter_133 : decode cX1_filter 133 = .ok (.iinc 8 1, 3) := dk_132 8 1 (dk_at dksX1_filter_5 18 rfl rfl)
theorem dX1_filter_136 : decode cX1_filter 136 = .ok (.iinc 9 1, 3) := dk_132 9 1 (dk_at dksX1_filter_5 21 rfl rfl)
theorem dX1_filter_139 : decode cX1_filter 139 = .ok (.goto (-43), 3) := dk_167 255 213 (dk_at dksX1_filter_6 0 rfl rfl)
theorem dX1_filter_142 : decode cX1_filter 142 = .ok (.aload_n 0, 1) := dk_42 (dk_at dksX1_filter_6 3 rfl rfl)
theorem dX1_filter_143 : decode cX1_filter 143 = .ok (.getfield 11, 3) := dk_180 0 11 (dk_at dksX1_filter_6 4 rfl rfl)
theorem dX1_filter_146 : decode cX1_filter 146 = .ok (.iload_n 1, 1) := dk_27 (dk_at dksX1_filter_6 7 rfl rfl)
theorem dX1_filter_147 : decode cX1_filter 147 = .ok (.aload 7, 2) := dk_25 7 (dk_at dksX1_filter_6 8 rfl rfl)
theorem dX1_filter_149 : decode cX1_filter 149 = .ok (.aastore, 1) := dk_83 (dk_at dksX1_filter_6 10 rfl rfl)
theorem dX1_filter_150 : decode cX1_filter 150 = .ok (.iload 6, 2) := dk_21 6 (dk_at dksX1_filter_6 11 rfl rfl)
theorem dX1_filter_152 : decode cX1_filter 152 = .ok (.ireturn, 1) := dk_172 (dk_at dksX1_filter_6 13 rfl rfl)
abbrev cX1_mix : ByteArray := prog_1_method_12_code
def yX1_mix : MethodName := ⟨RX1, "mix", "(III)I"⟩
def dkwX1_mix_6 : List UInt8 := [167, 255, 199, 42, 180, 0, 11, 27, 25, 9, 83, 21, 10, 172]
abbrev dktX1_mix_6 : List UInt8 := dkwX1_mix_6 ++ []
def dkwX1_mix_5 : List UInt8 := [21, 11, 21, 8, 162, 0, 17, 25, 9, 21, 10, 25, 7, 21, 11, 182, 0, 119, 132, 10, 1, 132, 11, 1]
abbrev dktX1_mix_5 : List UInt8 := dkwX1_mix_5 ++ dktX1_mix_6
def dkwX1_mix_4 : List UInt8 := [162, 0, 51, 21, 11, 21, 6, 162, 0, 17, 25, 9, 21, 10, 25, 5, 21, 11, 182, 0, 119, 132, 10, 1]
abbrev dktX1_mix_4 : List UInt8 := dkwX1_mix_4 ++ dktX1_mix_5
def dkwX1_mix_3 : List UInt8 := [21, 8, 96, 182, 0, 115, 58, 9, 3, 54, 10, 3, 54, 11, 21, 11, 21, 6, 21, 8, 184, 0, 123]
abbrev dktX1_mix_3 : List UInt8 := dkwX1_mix_3 ++ dktX1_mix_4
def dkwX1_mix_2 : List UInt8 := [159, 0, 6, 16, 152, 172, 21, 6, 21, 8, 96, 16, 60, 164, 0, 6, 16, 153, 172, 25, 5, 21, 6]
abbrev dktX1_mix_2 : List UInt8 := dkwX1_mix_2 ++ dktX1_mix_3
def dkwX1_mix_1 : List UInt8 := [180, 0, 11, 29, 50, 58, 7, 25, 7, 182, 0, 101, 54, 8, 25, 5, 182, 0, 105, 25, 7, 182, 0, 105]
abbrev dktX1_mix_1 : List UInt8 := dkwX1_mix_1 ++ dktX1_mix_2
def dkwX1_mix_0 : List UInt8 := [42, 180, 0, 11, 27, 50, 58, 4, 42, 180, 0, 11, 28, 50, 58, 5, 25, 5, 182, 0, 101, 54, 6, 42]
abbrev dktX1_mix_0 : List UInt8 := dkwX1_mix_0 ++ dktX1_mix_1
theorem dksX1_mix_0 : cX1_mix.data.toList.drop 0 = dktX1_mix_0 := by decide +kernel
theorem dksX1_mix_1 : cX1_mix.data.toList.drop 24 = dktX1_mix_1 := dk_seg dksX1_mix_0 24 rfl rfl
theorem dksX1_mix_2 : cX1_mix.data.toList.drop 48 = dktX1_mix_2 := dk_seg dksX1_mix_1 24 rfl rfl
theorem dksX1_mix_3 : cX1_mix.data.toList.drop 71 = dktX1_mix_3 := dk_seg dksX1_mix_2 23 rfl rfl
theorem dksX1_mix_4 : cX1_mix.data.toList.drop 94 = dktX1_mix_4 := dk_seg dksX1_mix_3 23 rfl rfl
theorem dksX1_mix_5 : cX1_mix.data.toList.drop 118 = dktX1_mix_5 := dk_seg dksX1_mix_4 24 rfl rfl
theorem dksX1_mix_6 : cX1_mix.data.toList.drop 142 = dktX1_mix_6 := dk_seg dksX1_mix_5 24 rfl rfl
theorem dX1_mix_0 : decode cX1_mix 0 = .ok (.aload_n 0, 1) := dk_42 (dk_at dksX1_mix_0 0 rfl rfl)
theorem dX1_mix_1 : decode cX1_mix 1 = .ok (.getfield 11, 3) := dk_180 0 11 (dk_at dksX1_mix_0 1 rfl rfl)
theorem dX1_mix_4 : decode cX1_mix 4 = .ok (.iload_n 1, 1) := dk_27 (dk_at dksX1_mix_0 4 rfl rfl)
theorem dX1_mix_5 : decode cX1_mix 5 = .ok (.aaload, 1) := dk_50 (dk_at dksX1_mix_0 5 rfl rfl)
theorem dX1_mix_6 : decode cX1_mix 6 = .ok (.astore 4, 2) := dk_58 4 (dk_at dksX1_mix_0 6 rfl rfl)
theorem dX1_mix_8 : decode cX1_mix 8 = .ok (.aload_n 0, 1) := dk_42 (dk_at dksX1_mix_0 8 rfl rfl)
theorem dX1_mix_9 : decode cX1_mix 9 = .ok (.getfield 11, 3) := dk_180 0 11 (dk_at dksX1_mix_0 9 rfl rfl)
theorem dX1_mix_12 : decode cX1_mix 12 = .ok (.iload_n 2, 1) := dk_28 (dk_at dksX1_mix_0 12 rfl rfl)
theorem dX1_mix_13 : decode cX1_mix 13 = .ok (.aaload, 1) := dk_50 (dk_at dksX1_mix_0 13 rfl rfl)
theorem dX1_mix_14 : decode cX1_mix 14 = .ok (.astore 5, 2) := dk_58 5 (dk_at dksX1_mix_0 14 rfl rfl)
theorem dX1_mix_16 : decode cX1_mix 16 = .ok (.aload 5, 2) := dk_25 5 (dk_at dksX1_mix_0 16 rfl rfl)
theorem dX1_mix_18 : decode cX1_mix 18 = .ok (.invokevirtual 101, 3) := dk_182 0 101 (dk_at dksX1_mix_0 18 rfl rfl)
theorem dX1_mix_21 : decode cX1_mix 21 = .ok (.istore 6, 2) := dk_54 6 (dk_at dksX1_mix_0 21 rfl rfl)
theorem dX1_mix_23 : decode cX1_mix 23 = .ok (.aload_n 0, 1) := dk_42 (dk_at dksX1_mix_0 23 rfl rfl)
theorem dX1_mix_24 : decode cX1_mix 24 = .ok (.getfield 11, 3) := dk_180 0 11 (dk_at dksX1_mix_1 0 rfl rfl)
theorem dX1_mix_27 : decode cX1_mix 27 = .ok (.iload_n 3, 1) := dk_29 (dk_at dksX1_mix_1 3 rfl rfl)
theorem dX1_mix_28 : decode cX1_mix 28 = .ok (.aaload, 1) := dk_50 (dk_at dksX1_mix_1 4 rfl rfl)
theorem dX1_mix_29 : decode cX1_mix 29 = .ok (.astore 7, 2) := dk_58 7 (dk_at dksX1_mix_1 5 rfl rfl)
theorem dX1_mix_31 : decode cX1_mix 31 = .ok (.aload 7, 2) := dk_25 7 (dk_at dksX1_mix_1 7 rfl rfl)
theorem dX1_mix_33 : decode cX1_mix 33 = .ok (.invokevirtual 101, 3) := dk_182 0 101 (dk_at dksX1_mix_1 9 rfl rfl)
theorem dX1_mix_36 : decode cX1_mix 36 = .ok (.istore 8, 2) := dk_54 8 (dk_at dksX1_mix_1 12 rfl rfl)
theorem dX1_mix_38 : decode cX1_mix 38 = .ok (.aload 5, 2) := dk_25 5 (dk_at dksX1_mix_1 14 rfl rfl)
theorem dX1_mix_40 : decode cX1_mix 40 = .ok (.invokevirtual 105, 3) := dk_182 0 105 (dk_at dksX1_mix_1 16 rfl rfl)
theorem dX1_mix_43 : decode cX1_mix 43 = .ok (.aload 7, 2) := dk_25 7 (dk_at dksX1_mix_1 19 rfl rfl)
theorem dX1_mix_45 : decode cX1_mix 45 = .ok (.invokevirtual 105, 3) := dk_182 0 105 (dk_at dksX1_mix_1 21 rfl rfl)
theorem dX1_mix_48 : decode cX1_mix 48 = .ok (.if_icmp .eq 6, 3) := dk_159 0 6 (dk_at dksX1_mix_2 0 rfl rfl)
theorem dX1_mix_51 : decode cX1_mix 51 = .ok (.bipush (-104), 2) := dk_16 152 (dk_at dksX1_mix_2 3 rfl rfl)
theorem dX1_mix_53 : decode cX1_mix 53 = .ok (.ireturn, 1) := dk_172 (dk_at dksX1_mix_2 5 rfl rfl)
theorem dX1_mix_54 : decode cX1_mix 54 = .ok (.iload 6, 2) := dk_21 6 (dk_at dksX1_mix_2 6 rfl rfl)
theorem dX1_mix_56 : decode cX1_mix 56 = .ok (.iload 8, 2) := dk_21 8 (dk_at dksX1_mix_2 8 rfl rfl)
theorem dX1_mix_58 : decode cX1_mix 58 = .ok (.iadd, 1) := dk_96 (dk_at dksX1_mix_2 10 rfl rfl)
theorem dX1_mix_59 : decode cX1_mix 59 = .ok (.bipush 60, 2) := dk_16 60 (dk_at dksX1_mix_2 11 rfl rfl)
theorem dX1_mix_61 : decode cX1_mix 61 = .ok (.if_icmp .le 6, 3) := dk_164 0 6 (dk_at dksX1_mix_2 13 rfl rfl)
theorem dX1_mix_64 : decode cX1_mix 64 = .ok (.bipush (-103), 2) := dk_16 153 (dk_at dksX1_mix_2 16 rfl rfl)
theorem dX1_mix_66 : decode cX1_mix 66 = .ok (.ireturn, 1) := dk_172 (dk_at dksX1_mix_2 18 rfl rfl)
theorem dX1_mix_67 : decode cX1_mix 67 = .ok (.aload 5, 2) := dk_25 5 (dk_at dksX1_mix_2 19 rfl rfl)
theorem dX1_mix_69 : decode cX1_mix 69 = .ok (.iload 6, 2) := dk_21 6 (dk_at dksX1_mix_2 21 rfl rfl)
theorem dX1_mix_71 : decode cX1_mix 71 = .ok (.iload 8, 2) := dk_21 8 (dk_at dksX1_mix_3 0 rfl rfl)
theorem dX1_mix_73 : decode cX1_mix 73 = .ok (.iadd, 1) := dk_96 (dk_at dksX1_mix_3 2 rfl rfl)
theorem dX1_mix_74 : decode cX1_mix 74 = .ok (.invokevirtual 115, 3) := dk_182 0 115 (dk_at dksX1_mix_3 3 rfl rfl)
theorem dX1_mix_77 : decode cX1_mix 77 = .ok (.astore 9, 2) := dk_58 9 (dk_at dksX1_mix_3 6 rfl rfl)
theorem dX1_mix_79 : decode cX1_mix 79 = .ok (.iconst 0, 1) := dk_3 (dk_at dksX1_mix_3 8 rfl rfl)
theorem dX1_mix_80 : decode cX1_mix 80 = .ok (.istore 10, 2) := dk_54 10 (dk_at dksX1_mix_3 9 rfl rfl)
theorem dX1_mix_82 : decode cX1_mix 82 = .ok (.iconst 0, 1) := dk_3 (dk_at dksX1_mix_3 11 rfl rfl)
theorem dX1_mix_83 : decode cX1_mix 83 = .ok (.istore 11, 2) := dk_54 11 (dk_at dksX1_mix_3 12 rfl rfl)
theorem dX1_mix_85 : decode cX1_mix 85 = .ok (.iload 11, 2) := dk_21 11 (dk_at dksX1_mix_3 14 rfl rfl)
theorem dX1_mix_87 : decode cX1_mix 87 = .ok (.iload 6, 2) := dk_21 6 (dk_at dksX1_mix_3 16 rfl rfl)
theorem dX1_mix_89 : decode cX1_mix 89 = .ok (.iload 8, 2) := dk_21 8 (dk_at dksX1_mix_3 18 rfl rfl)
theorem dX1_mix_91 : decode cX1_mix 91 = .ok (.invokestatic 123, 3) := dk_184 0 123 (dk_at dksX1_mix_3 20 rfl rfl)
theorem dX1_mix_94 : decode cX1_mix 94 = .ok (.if_icmp .ge 51, 3) := dk_162 0 51 (dk_at dksX1_mix_4 0 rfl rfl)
theorem dX1_mix_97 : decode cX1_mix 97 = .ok (.iload 11, 2) := dk_21 11 (dk_at dksX1_mix_4 3 rfl rfl)
theorem dX1_mix_99 : decode cX1_mix 99 = .ok (.iload 6, 2) := dk_21 6 (dk_at dksX1_mix_4 5 rfl rfl)
theorem dX1_mix_101 : decode cX1_mix 101 = .ok (.if_icmp .ge 17, 3) := dk_162 0 17 (dk_at dksX1_mix_4 7 rfl rfl)
theorem dX1_mix_104 : decode cX1_mix 104 = .ok (.aload 9, 2) := dk_25 9 (dk_at dksX1_mix_4 10 rfl rfl)
theorem dX1_mix_106 : decode cX1_mix 106 = .ok (.iload 10, 2) := dk_21 10 (dk_at dksX1_mix_4 12 rfl rfl)
theorem dX1_mix_108 : decode cX1_mix 108 = .ok (.aload 5, 2) := dk_25 5 (dk_at dksX1_mix_4 14 rfl rfl)
theorem dX1_mix_110 : decode cX1_mix 110 = .ok (.iload 11, 2) := dk_21 11 (dk_at dksX1_mix_4 16 rfl rfl)
theorem dX1_mix_112 : decode cX1_mix 112 = .ok (.invokevirtual 119, 3) := dk_182 0 119 (dk_at dksX1_mix_4 18 rfl rfl)
theorem dX1_mix_115 : decode cX1_mix 115 = .ok (.iinc 10 1, 3) := dk_132 10 1 (dk_at dksX1_mix_4 21 rfl rfl)
theorem dX1_mix_118 : decode cX1_mix 118 = .ok (.iload 11, 2) := dk_21 11 (dk_at dksX1_mix_5 0 rfl rfl)
theorem dX1_mix_120 : decode cX1_mix 120 = .ok (.iload 8, 2) := dk_21 8 (dk_at dksX1_mix_5 2 rfl rfl)
theorem dX1_mix_122 : decode cX1_mix 122 = .ok (.if_icmp .ge 17, 3) := dk_162 0 17 (dk_at dksX1_mix_5 4 rfl rfl)
theorem dX1_mix_125 : decode cX1_mix 125 = .ok (.aload 9, 2) := dk_25 9 (dk_at dksX1_mix_5 7 rfl rfl)
theorem dX1_mix_127 : decode cX1_mix 127 = .ok (.iload 10, 2) := dk_21 10 (dk_at dksX1_mix_5 9 rfl rfl)
theorem dX1_mix_129 : decode cX1_mix 129 = .ok (.aload 7, 2) := dk_25 7 (dk_at dksX1_mix_5 11 rfl rfl)
theorem dX1_mix_131 : decode cX1_mix 131 = .ok (.iload 11, 2) := dk_21 11 (dk_at dksX1_mix_5 13 rfl rfl)
theorem dX1_mix_133 : decode cX1_mix 133 = .ok (.invokevirtual 119, 3) := dk_182 0 119 (dk_at dksX1_mix_5 15 rfl rfl)
theorem dX1_mix_136 : decode cX1_mix 136 = .ok (.iinc 10 1, 3) := dk_132 10 1 (dk_at dksX1_mix_5 18 rfl rfl)
theorem dX1_mix_139 : decode cX1_mix 139 = .ok (.iinc 11 1, 3) := dk_132 11 1 (dk_at dksX1_mix_5 21 rfl rfl)
theorem dX1_mix_142 : decode cX1_mix 142 = .ok (.goto (-57), 3) := dk_167 255 199 (dk_at dksX1_mix_6 0 rfl rfl)
theorem dX1_mix_145 : decode cX1_mix 145 = .ok (.aload_n 0, 1) := dk_42 (dk_at dksX1_mix_6 3 rfl rfl)
theorem dX1_mix_146 : decode cX1_mix 146 = .ok (.getfield 11, 3) := dk_180 0 11 (dk_at dksX1_mix_6 4 rfl rfl)
theorem dX1_mix_149 : decode cX1_mix 149 = .ok (.iload_n 1, 1) := dk_27 (dk_at dksX1_mix_6 7 rfl rfl)
theorem dX1_mix_150 : decode cX1_mix 150 = .ok (.aload 9, 2) := dk_25 9 (dk_at dksX1_mix_6 8 rfl rfl)
theorem dX1_mix_152 : decode cX1_mix 152 = .ok (.aastore, 1) := dk_83 (dk_at dksX1_mix_6 10 rfl rfl)
theorem dX1_mix_153 : decode cX1_mix 153 = .ok (.iload 10, 2) := dk_21 10 (dk_at dksX1_mix_6 11 rfl rfl)
theorem dX1_mix_155 : decode cX1_mix 155 = .ok (.ireturn, 1) := dk_172 (dk_at dksX1_mix_6 13 rfl rfl)
abbrev cX1_same : ByteArray := prog_1_method_13_code
def yX1_same : MethodName := ⟨RX1, "same", "(II)I"⟩
def dkwX1_same_1 : List UInt8 := [182, 0, 127, 153, 0, 7, 4, 167, 0, 4, 3, 172]
abbrev dktX1_same_1 : List UInt8 := dkwX1_same_1 ++ []
def dkwX1_same_0 : List UInt8 := [42, 180, 0, 11, 27, 50, 78, 45, 182, 0, 101, 54, 4, 42, 180, 0, 11, 28, 50, 58, 5, 45, 25, 5]
abbrev dktX1_same_0 : List UInt8 := dkwX1_same_0 ++ dktX1_same_1
theorem dksX1_same_0 : cX1_same.data.toList.drop 0 = dktX1_same_0 := by decide +kernel
theorem dksX1_same_1 : cX1_same.data.toList.drop 24 = dktX1_same_1 := dk_seg dksX1_same_0 24 rfl rfl
theorem dX1_same_0 : decode cX1_same 0 = .ok (.aload_n 0, 1) := dk_42 (dk_at dksX1_same_0 0 rfl rfl)
theorem dX1_same_1 : decode cX1_same 1 = .ok (.getfield 11, 3) := dk_180 0 11 (dk_at dksX1_same_0 1 rfl rfl)
theorem dX1_same_4 : decode cX1_same 4 = .ok (.iload_n 1, 1) := dk_27 (dk_at dksX1_same_0 4 rfl rfl)
theorem dX1_same_5 : decode cX1_same 5 = .ok (.aaload, 1) := dk_50 (dk_at dksX1_same_0 5 rfl rfl)
theorem dX1_same_6 : decode cX1_same 6 = .ok (.astore_n 3, 1) := dk_78 (dk_at dksX1_same_0 6 rfl rfl)
theorem dX1_same_7 : decode cX1_same 7 = .ok (.aload_n 3, 1) := dk_45 (dk_at dksX1_same_0 7 rfl rfl)
theorem dX1_same_8 : decode cX1_same 8 = .ok (.invokevirtual 101, 3) := dk_182 0 101 (dk_at dksX1_same_0 8 rfl rfl)
theorem dX1_same_11 : decode cX1_same 11 = .ok (.istore 4, 2) := dk_54 4 (dk_at dksX1_same_0 11 rfl rfl)
theorem dX1_same_13 : decode cX1_same 13 = .ok (.aload_n 0, 1) := dk_42 (dk_at dksX1_same_0 13 rfl rfl)
theorem dX1_same_14 : decode cX1_same 14 = .ok (.getfield 11, 3) := dk_180 0 11 (dk_at dksX1_same_0 14 rfl rfl)
theorem dX1_same_17 : decode cX1_same 17 = .ok (.iload_n 2, 1) := dk_28 (dk_at dksX1_same_0 17 rfl rfl)
theorem dX1_same_18 : decode cX1_same 18 = .ok (.aaload, 1) := dk_50 (dk_at dksX1_same_0 18 rfl rfl)
theorem dX1_same_19 : decode cX1_same 19 = .ok (.astore 5, 2) := dk_58 5 (dk_at dksX1_same_0 19 rfl rfl)
theorem dX1_same_21 : decode cX1_same 21 = .ok (.aload_n 3, 1) := dk_45 (dk_at dksX1_same_0 21 rfl rfl)
theorem dX1_same_22 : decode cX1_same 22 = .ok (.aload 5, 2) := dk_25 5 (dk_at dksX1_same_0 22 rfl rfl)
theorem dX1_same_24 : decode cX1_same 24 = .ok (.invokevirtual 127, 3) := dk_182 0 127 (dk_at dksX1_same_1 0 rfl rfl)
theorem dX1_same_27 : decode cX1_same 27 = .ok (.ifCond .eq 7, 3) := dk_153 0 7 (dk_at dksX1_same_1 3 rfl rfl)
theorem dX1_same_30 : decode cX1_same 30 = .ok (.iconst 1, 1) := dk_4 (dk_at dksX1_same_1 6 rfl rfl)
theorem dX1_same_31 : decode cX1_same 31 = .ok (.goto 4, 3) := dk_167 0 4 (dk_at dksX1_same_1 7 rfl rfl)
theorem dX1_same_34 : decode cX1_same 34 = .ok (.iconst 0, 1) := dk_3 (dk_at dksX1_same_1 10 rfl rfl)
theorem dX1_same_35 : decode cX1_same 35 = .ok (.ireturn, 1) := dk_172 (dk_at dksX1_same_1 11 rfl rfl)
abbrev cX1_worked : ByteArray := prog_1_method_14_code
def yX1_worked : MethodName := ⟨RX1, "worked", "(IIII)J"⟩
def dkwX1_worked_3 : List UInt8 := [183, 0, 137, 191, 25, 5, 25, 5, 24, 6, 24, 8, 21, 4, 182, 0, 138, 182, 0, 71, 173]
abbrev dktX1_worked_3 : List UInt8 := dkwX1_worked_3 ++ []
def dkwX1_worked_2 : List UInt8 := [182, 0, 67, 57, 8, 21, 4, 16, 8, 160, 0, 18, 24, 8, 14, 151, 154, 0, 11, 187, 0, 135, 89]
abbrev dktX1_worked_2 : List UInt8 := dkwX1_worked_2 ++ dktX1_worked_3
def dkwX1_worked_1 : List UInt8 := [58, 5, 25, 5, 28, 182, 0, 67, 57, 6, 21, 4, 8, 162, 0, 7, 14, 167, 0, 9, 25, 5, 29]
abbrev dktX1_worked_1 : List UInt8 := dkwX1_worked_1 ++ dktX1_worked_2
def dkwX1_worked_0 : List UInt8 := [21, 4, 133, 9, 20, 0, 131, 184, 0, 57, 154, 0, 7, 20, 0, 133, 173, 42, 180, 0, 11, 27, 50]
abbrev dktX1_worked_0 : List UInt8 := dkwX1_worked_0 ++ dktX1_worked_1
theorem dksX1_worked_0 : cX1_worked.data.toList.drop 0 = dktX1_worked_0 := by decide +kernel
theorem dksX1_worked_1 : cX1_worked.data.toList.drop 23 = dktX1_worked_1 := dk_seg dksX1_worked_0 23 rfl rfl
theorem dksX1_worked_2 : cX1_worked.data.toList.drop 46 = dktX1_worked_2 := dk_seg dksX1_worked_1 23 rfl rfl
theorem dksX1_worked_3 : cX1_worked.data.toList.drop 69 = dktX1_worked_3 := dk_seg dksX1_worked_2 23 rfl rfl
theorem dX1_worked_0 : decode cX1_worked 0 = .ok (.iload 4, 2) := dk_21 4 (dk_at dksX1_worked_0 0 rfl rfl)
theorem dX1_worked_2 : decode cX1_worked 2 = .ok (.i2l, 1) := dk_133 (dk_at dksX1_worked_0 2 rfl rfl)
theorem dX1_worked_3 : decode cX1_worked 3 = .ok (.lconst 0, 1) := dk_9 (dk_at dksX1_worked_0 3 rfl rfl)
theorem dX1_worked_4 : decode cX1_worked 4 = .ok (.ldc2_w 131, 3) := dk_20 0 131 (dk_at dksX1_worked_0 4 rfl rfl)
theorem dX1_worked_7 : decode cX1_worked 7 = .ok (.invokestatic 57, 3) := dk_184 0 57 (dk_at dksX1_worked_0 7 rfl rfl)
theorem dX1_worked_10 : decode cX1_worked 10 = .ok (.ifCond .ne 7, 3) := dk_154 0 7 (dk_at dksX1_worked_0 10 rfl rfl)
theorem dX1_worked_13 : decode cX1_worked 13 = .ok (.ldc2_w 133, 3) := dk_20 0 133 (dk_at dksX1_worked_0 13 rfl rfl)
theorem dX1_worked_16 : decode cX1_worked 16 = .ok (.lreturn, 1) := dk_173 (dk_at dksX1_worked_0 16 rfl rfl)
theorem dX1_worked_17 : decode cX1_worked 17 = .ok (.aload_n 0, 1) := dk_42 (dk_at dksX1_worked_0 17 rfl rfl)
theorem dX1_worked_18 : decode cX1_worked 18 = .ok (.getfield 11, 3) := dk_180 0 11 (dk_at dksX1_worked_0 18 rfl rfl)
theorem dX1_worked_21 : decode cX1_worked 21 = .ok (.iload_n 1, 1) := dk_27 (dk_at dksX1_worked_0 21 rfl rfl)
theorem dX1_worked_22 : decode cX1_worked 22 = .ok (.aaload, 1) := dk_50 (dk_at dksX1_worked_0 22 rfl rfl)
theorem dX1_worked_23 : decode cX1_worked 23 = .ok (.astore 5, 2) := dk_58 5 (dk_at dksX1_worked_1 0 rfl rfl)
theorem dX1_worked_25 : decode cX1_worked 25 = .ok (.aload 5, 2) := dk_25 5 (dk_at dksX1_worked_1 2 rfl rfl)
theorem dX1_worked_27 : decode cX1_worked 27 = .ok (.iload_n 2, 1) := dk_28 (dk_at dksX1_worked_1 4 rfl rfl)
theorem dX1_worked_28 : decode cX1_worked 28 = .ok (.invokevirtual 67, 3) := dk_182 0 67 (dk_at dksX1_worked_1 5 rfl rfl)
theorem dX1_worked_31 : decode cX1_worked 31 = .ok (.dstore 6, 2) := dk_57 6 (dk_at dksX1_worked_1 8 rfl rfl)
theorem dX1_worked_33 : decode cX1_worked 33 = .ok (.iload 4, 2) := dk_21 4 (dk_at dksX1_worked_1 10 rfl rfl)
theorem dX1_worked_35 : decode cX1_worked 35 = .ok (.iconst 5, 1) := dk_8 (dk_at dksX1_worked_1 12 rfl rfl)
theorem dX1_worked_36 : decode cX1_worked 36 = .ok (.if_icmp .ge 7, 3) := dk_162 0 7 (dk_at dksX1_worked_1 13 rfl rfl)
theorem dX1_worked_39 : decode cX1_worked 39 = .ok (.dconst 0, 1) := dk_14 (dk_at dksX1_worked_1 16 rfl rfl)
theorem dX1_worked_40 : decode cX1_worked 40 = .ok (.goto 9, 3) := dk_167 0 9 (dk_at dksX1_worked_1 17 rfl rfl)
theorem dX1_worked_43 : decode cX1_worked 43 = .ok (.aload 5, 2) := dk_25 5 (dk_at dksX1_worked_1 20 rfl rfl)
theorem dX1_worked_45 : decode cX1_worked 45 = .ok (.iload_n 3, 1) := dk_29 (dk_at dksX1_worked_1 22 rfl rfl)
theorem dX1_worked_46 : decode cX1_worked 46 = .ok (.invokevirtual 67, 3) := dk_182 0 67 (dk_at dksX1_worked_2 0 rfl rfl)
theorem dX1_worked_49 : decode cX1_worked 49 = .ok (.dstore 8, 2) := dk_57 8 (dk_at dksX1_worked_2 3 rfl rfl)
theorem dX1_worked_51 : decode cX1_worked 51 = .ok (.iload 4, 2) := dk_21 4 (dk_at dksX1_worked_2 5 rfl rfl)
theorem dX1_worked_53 : decode cX1_worked 53 = .ok (.bipush 8, 2) := dk_16 8 (dk_at dksX1_worked_2 7 rfl rfl)
theorem dX1_worked_55 : decode cX1_worked 55 = .ok (.if_icmp .ne 18, 3) := dk_160 0 18 (dk_at dksX1_worked_2 9 rfl rfl)
theorem dX1_worked_58 : decode cX1_worked 58 = .ok (.dload 8, 2) := dk_24 8 (dk_at dksX1_worked_2 12 rfl rfl)
theorem dX1_worked_60 : decode cX1_worked 60 = .ok (.dconst 0, 1) := dk_14 (dk_at dksX1_worked_2 14 rfl rfl)
theorem dX1_worked_61 : decode cX1_worked 61 = .ok (.dcmp .l, 1) := dk_151 (dk_at dksX1_worked_2 15 rfl rfl)
theorem dX1_worked_62 : decode cX1_worked 62 = .ok (.ifCond .ne 11, 3) := dk_154 0 11 (dk_at dksX1_worked_2 16 rfl rfl)
theorem dX1_worked_65 : decode cX1_worked 65 = .ok (.new 135, 3) := dk_187 0 135 (dk_at dksX1_worked_2 19 rfl rfl)
theorem dX1_worked_68 : decode cX1_worked 68 = .ok (.dup, 1) := dk_89 (dk_at dksX1_worked_2 22 rfl rfl)
theorem dX1_worked_69 : decode cX1_worked 69 = .ok (.invokespecial 137, 3) := dk_183 0 137 (dk_at dksX1_worked_3 0 rfl rfl)
theorem dX1_worked_72 : decode cX1_worked 72 = .ok (.athrow, 1) := dk_191 (dk_at dksX1_worked_3 3 rfl rfl)
theorem dX1_worked_73 : decode cX1_worked 73 = .ok (.aload 5, 2) := dk_25 5 (dk_at dksX1_worked_3 4 rfl rfl)
theorem dX1_worked_75 : decode cX1_worked 75 = .ok (.aload 5, 2) := dk_25 5 (dk_at dksX1_worked_3 6 rfl rfl)
theorem dX1_worked_77 : decode cX1_worked 77 = .ok (.dload 6, 2) := dk_24 6 (dk_at dksX1_worked_3 8 rfl rfl)
theorem dX1_worked_79 : decode cX1_worked 79 = .ok (.dload 8, 2) := dk_24 8 (dk_at dksX1_worked_3 10 rfl rfl)
theorem dX1_worked_81 : decode cX1_worked 81 = .ok (.iload 4, 2) := dk_21 4 (dk_at dksX1_worked_3 12 rfl rfl)
theorem dX1_worked_83 : decode cX1_worked 83 = .ok (.invokevirtual 138, 3) := dk_182 0 138 (dk_at dksX1_worked_3 14 rfl rfl)
theorem dX1_worked_86 : decode cX1_worked 86 = .ok (.invokevirtual 71, 3) := dk_182 0 71 (dk_at dksX1_worked_3 17 rfl rfl)
theorem dX1_worked_89 : decode cX1_worked 89 = .ok (.lreturn, 1) := dk_173 (dk_at dksX1_worked_3 20 rfl rfl)
abbrev cX1_whole : ByteArray := prog_1_method_15_code
def yX1_whole : MethodName := ⟨RX1, "whole", "(III)J"⟩
def dkwX1_whole_1 : List UInt8 := [25, 4, 25, 4, 28, 182, 0, 67, 29, 182, 0, 144, 173]
abbrev dktX1_whole_1 : List UInt8 := dkwX1_whole_1 ++ []
def dkwX1_whole_0 : List UInt8 := [29, 133, 9, 20, 0, 142, 184, 0, 57, 154, 0, 7, 20, 0, 133, 173, 42, 180, 0, 11, 27, 50, 58, 4]
abbrev dktX1_whole_0 : List UInt8 := dkwX1_whole_0 ++ dktX1_whole_1
theorem dksX1_whole_0 : cX1_whole.data.toList.drop 0 = dktX1_whole_0 := by decide +kernel
theorem dksX1_whole_1 : cX1_whole.data.toList.drop 24 = dktX1_whole_1 := dk_seg dksX1_whole_0 24 rfl rfl
theorem dX1_whole_0 : decode cX1_whole 0 = .ok (.iload_n 3, 1) := dk_29 (dk_at dksX1_whole_0 0 rfl rfl)
theorem dX1_whole_1 : decode cX1_whole 1 = .ok (.i2l, 1) := dk_133 (dk_at dksX1_whole_0 1 rfl rfl)
theorem dX1_whole_2 : decode cX1_whole 2 = .ok (.lconst 0, 1) := dk_9 (dk_at dksX1_whole_0 2 rfl rfl)
theorem dX1_whole_3 : decode cX1_whole 3 = .ok (.ldc2_w 142, 3) := dk_20 0 142 (dk_at dksX1_whole_0 3 rfl rfl)
theorem dX1_whole_6 : decode cX1_whole 6 = .ok (.invokestatic 57, 3) := dk_184 0 57 (dk_at dksX1_whole_0 6 rfl rfl)
theorem dX1_whole_9 : decode cX1_whole 9 = .ok (.ifCond .ne 7, 3) := dk_154 0 7 (dk_at dksX1_whole_0 9 rfl rfl)
theorem dX1_whole_12 : decode cX1_whole 12 = .ok (.ldc2_w 133, 3) := dk_20 0 133 (dk_at dksX1_whole_0 12 rfl rfl)
theorem dX1_whole_15 : decode cX1_whole 15 = .ok (.lreturn, 1) := dk_173 (dk_at dksX1_whole_0 15 rfl rfl)
theorem dX1_whole_16 : decode cX1_whole 16 = .ok (.aload_n 0, 1) := dk_42 (dk_at dksX1_whole_0 16 rfl rfl)
theorem dX1_whole_17 : decode cX1_whole 17 = .ok (.getfield 11, 3) := dk_180 0 11 (dk_at dksX1_whole_0 17 rfl rfl)
theorem dX1_whole_20 : decode cX1_whole 20 = .ok (.iload_n 1, 1) := dk_27 (dk_at dksX1_whole_0 20 rfl rfl)
theorem dX1_whole_21 : decode cX1_whole 21 = .ok (.aaload, 1) := dk_50 (dk_at dksX1_whole_0 21 rfl rfl)
theorem dX1_whole_22 : decode cX1_whole 22 = .ok (.astore 4, 2) := dk_58 4 (dk_at dksX1_whole_0 22 rfl rfl)
theorem dX1_whole_24 : decode cX1_whole 24 = .ok (.aload 4, 2) := dk_25 4 (dk_at dksX1_whole_1 0 rfl rfl)
theorem dX1_whole_26 : decode cX1_whole 26 = .ok (.aload 4, 2) := dk_25 4 (dk_at dksX1_whole_1 2 rfl rfl)
theorem dX1_whole_28 : decode cX1_whole 28 = .ok (.iload_n 2, 1) := dk_28 (dk_at dksX1_whole_1 4 rfl rfl)
theorem dX1_whole_29 : decode cX1_whole 29 = .ok (.invokevirtual 67, 3) := dk_182 0 67 (dk_at dksX1_whole_1 5 rfl rfl)
theorem dX1_whole_32 : decode cX1_whole 32 = .ok (.iload_n 3, 1) := dk_29 (dk_at dksX1_whole_1 8 rfl rfl)
theorem dX1_whole_33 : decode cX1_whole 33 = .ok (.invokevirtual 144, 3) := dk_182 0 144 (dk_at dksX1_whole_1 9 rfl rfl)
theorem dX1_whole_36 : decode cX1_whole 36 = .ok (.lreturn, 1) := dk_173 (dk_at dksX1_whole_1 12 rfl rfl)
abbrev cX1_units : ByteArray := prog_1_method_17_code
def yX1_units : MethodName := ⟨RX1, "units", "(III)J"⟩
def dkwX1_units_1 : List UInt8 := [182, 0, 67, 57, 4, 42, 24, 4, 29, 182, 0, 173, 173, 58, 6, 20, 0, 176, 173]
abbrev dktX1_units_1 : List UInt8 := dkwX1_units_1 ++ []
def dkwX1_units_0 : List UInt8 := [29, 133, 9, 20, 0, 99, 184, 0, 57, 154, 0, 7, 20, 0, 133, 173, 42, 180, 0, 11, 27, 50, 28]
abbrev dktX1_units_0 : List UInt8 := dkwX1_units_0 ++ dktX1_units_1
theorem dksX1_units_0 : cX1_units.data.toList.drop 0 = dktX1_units_0 := by decide +kernel
theorem dksX1_units_1 : cX1_units.data.toList.drop 23 = dktX1_units_1 := dk_seg dksX1_units_0 23 rfl rfl
theorem dX1_units_0 : decode cX1_units 0 = .ok (.iload_n 3, 1) := dk_29 (dk_at dksX1_units_0 0 rfl rfl)
theorem dX1_units_1 : decode cX1_units 1 = .ok (.i2l, 1) := dk_133 (dk_at dksX1_units_0 1 rfl rfl)
theorem dX1_units_2 : decode cX1_units 2 = .ok (.lconst 0, 1) := dk_9 (dk_at dksX1_units_0 2 rfl rfl)
theorem dX1_units_3 : decode cX1_units 3 = .ok (.ldc2_w 99, 3) := dk_20 0 99 (dk_at dksX1_units_0 3 rfl rfl)
theorem dX1_units_6 : decode cX1_units 6 = .ok (.invokestatic 57, 3) := dk_184 0 57 (dk_at dksX1_units_0 6 rfl rfl)
theorem dX1_units_9 : decode cX1_units 9 = .ok (.ifCond .ne 7, 3) := dk_154 0 7 (dk_at dksX1_units_0 9 rfl rfl)
theorem dX1_units_12 : decode cX1_units 12 = .ok (.ldc2_w 133, 3) := dk_20 0 133 (dk_at dksX1_units_0 12 rfl rfl)
theorem dX1_units_15 : decode cX1_units 15 = .ok (.lreturn, 1) := dk_173 (dk_at dksX1_units_0 15 rfl rfl)
theorem dX1_units_16 : decode cX1_units 16 = .ok (.aload_n 0, 1) := dk_42 (dk_at dksX1_units_0 16 rfl rfl)
theorem dX1_units_17 : decode cX1_units 17 = .ok (.getfield 11, 3) := dk_180 0 11 (dk_at dksX1_units_0 17 rfl rfl)
theorem dX1_units_20 : decode cX1_units 20 = .ok (.iload_n 1, 1) := dk_27 (dk_at dksX1_units_0 20 rfl rfl)
theorem dX1_units_21 : decode cX1_units 21 = .ok (.aaload, 1) := dk_50 (dk_at dksX1_units_0 21 rfl rfl)
theorem dX1_units_22 : decode cX1_units 22 = .ok (.iload_n 2, 1) := dk_28 (dk_at dksX1_units_0 22 rfl rfl)
theorem dX1_units_23 : decode cX1_units 23 = .ok (.invokevirtual 67, 3) := dk_182 0 67 (dk_at dksX1_units_1 0 rfl rfl)
theorem dX1_units_26 : decode cX1_units 26 = .ok (.dstore 4, 2) := dk_57 4 (dk_at dksX1_units_1 3 rfl rfl)
theorem dX1_units_28 : decode cX1_units 28 = .ok (.aload_n 0, 1) := dk_42 (dk_at dksX1_units_1 5 rfl rfl)
theorem dX1_units_29 : decode cX1_units 29 = .ok (.dload 4, 2) := dk_24 4 (dk_at dksX1_units_1 6 rfl rfl)
theorem dX1_units_31 : decode cX1_units 31 = .ok (.iload_n 3, 1) := dk_29 (dk_at dksX1_units_1 8 rfl rfl)
theorem dX1_units_32 : decode cX1_units 32 = .ok (.invokevirtual 173, 3) := dk_182 0 173 (dk_at dksX1_units_1 9 rfl rfl)
theorem dX1_units_35 : decode cX1_units 35 = .ok (.lreturn, 1) := dk_173 (dk_at dksX1_units_1 12 rfl rfl)
theorem dX1_units_36 : decode cX1_units 36 = .ok (.astore 6, 2) := dk_58 6 (dk_at dksX1_units_1 13 rfl rfl)
theorem dX1_units_38 : decode cX1_units 38 = .ok (.ldc2_w 176, 3) := dk_20 0 176 (dk_at dksX1_units_1 15 rfl rfl)
theorem dX1_units_41 : decode cX1_units 41 = .ok (.lreturn, 1) := dk_173 (dk_at dksX1_units_1 18 rfl rfl)
abbrev cX1_unitsOf : ByteArray := prog_1_method_16_code
def yX1_unitsOf : MethodName := ⟨RX1, "unitsOf", "(DI)J"⟩
def dkwX1_unitsOf_4 : List UInt8 := [22, 4, 173]
abbrev dktX1_unitsOf_4 : List UInt8 := dkwX1_unitsOf_4 ++ []
def dkwX1_unitsOf_3 : List UInt8 := [158, 0, 11, 187, 0, 164, 89, 183, 0, 166, 191, 39, 14, 152, 156, 0, 9, 22, 4, 117, 167, 0, 5]
abbrev dktX1_unitsOf_3 : List UInt8 := dkwX1_unitsOf_3 ++ dktX1_unitsOf_4
def dkwX1_unitsOf_2 : List UInt8 := [89, 183, 0, 166, 191, 42, 180, 0, 18, 17, 4, 50, 182, 0, 167, 55, 4, 22, 4, 20, 0, 171, 148]
abbrev dktX1_unitsOf_2 : List UInt8 := dkwX1_unitsOf_2 ++ dktX1_unitsOf_3
def dkwX1_unitsOf_1 : List UInt8 := [178, 0, 155, 29, 47, 182, 0, 159, 42, 180, 0, 18, 182, 0, 163, 17, 4, 110, 164, 0, 11, 187, 0, 164]
abbrev dktX1_unitsOf_1 : List UInt8 := dkwX1_unitsOf_1 ++ dktX1_unitsOf_2
def dkwX1_unitsOf_0 : List UInt8 := [42, 180, 0, 18, 182, 0, 148, 42, 180, 0, 18, 39, 184, 0, 92, 3, 182, 0, 151, 42, 180, 0, 18]
abbrev dktX1_unitsOf_0 : List UInt8 := dkwX1_unitsOf_0 ++ dktX1_unitsOf_1
theorem dksX1_unitsOf_0 : cX1_unitsOf.data.toList.drop 0 = dktX1_unitsOf_0 := by decide +kernel
theorem dksX1_unitsOf_1 : cX1_unitsOf.data.toList.drop 23 = dktX1_unitsOf_1 := dk_seg dksX1_unitsOf_0 23 rfl rfl
theorem dksX1_unitsOf_2 : cX1_unitsOf.data.toList.drop 47 = dktX1_unitsOf_2 := dk_seg dksX1_unitsOf_1 24 rfl rfl
theorem dksX1_unitsOf_3 : cX1_unitsOf.data.toList.drop 70 = dktX1_unitsOf_3 := dk_seg dksX1_unitsOf_2 23 rfl rfl
theorem dksX1_unitsOf_4 : cX1_unitsOf.data.toList.drop 93 = dktX1_unitsOf_4 := dk_seg dksX1_unitsOf_3 23 rfl rfl
theorem dX1_unitsOf_0 : decode cX1_unitsOf 0 = .ok (.aload_n 0, 1) := dk_42 (dk_at dksX1_unitsOf_0 0 rfl rfl)
theorem dX1_unitsOf_1 : decode cX1_unitsOf 1 = .ok (.getfield 18, 3) := dk_180 0 18 (dk_at dksX1_unitsOf_0 1 rfl rfl)
theorem dX1_unitsOf_4 : decode cX1_unitsOf 4 = .ok (.invokevirtual 148, 3) := dk_182 0 148 (dk_at dksX1_unitsOf_0 4 rfl rfl)
theorem dX1_unitsOf_7 : decode cX1_unitsOf 7 = .ok (.aload_n 0, 1) := dk_42 (dk_at dksX1_unitsOf_0 7 rfl rfl)
theorem dX1_unitsOf_8 : decode cX1_unitsOf 8 = .ok (.getfield 18, 3) := dk_180 0 18 (dk_at dksX1_unitsOf_0 8 rfl rfl)
theorem dX1_unitsOf_11 : decode cX1_unitsOf 11 = .ok (.dload_n 1, 1) := dk_39 (dk_at dksX1_unitsOf_0 11 rfl rfl)
theorem dX1_unitsOf_12 : decode cX1_unitsOf 12 = .ok (.invokestatic 92, 3) := dk_184 0 92 (dk_at dksX1_unitsOf_0 12 rfl rfl)
theorem dX1_unitsOf_15 : decode cX1_unitsOf 15 = .ok (.iconst 0, 1) := dk_3 (dk_at dksX1_unitsOf_0 15 rfl rfl)
theorem dX1_unitsOf_16 : decode cX1_unitsOf 16 = .ok (.invokevirtual 151, 3) := dk_182 0 151 (dk_at dksX1_unitsOf_0 16 rfl rfl)
theorem dX1_unitsOf_19 : decode cX1_unitsOf 19 = .ok (.aload_n 0, 1) := dk_42 (dk_at dksX1_unitsOf_0 19 rfl rfl)
theorem dX1_unitsOf_20 : decode cX1_unitsOf 20 = .ok (.getfield 18, 3) := dk_180 0 18 (dk_at dksX1_unitsOf_0 20 rfl rfl)
theorem dX1_unitsOf_23 : decode cX1_unitsOf 23 = .ok (.getstatic 155, 3) := dk_178 0 155 (dk_at dksX1_unitsOf_1 0 rfl rfl)
theorem dX1_unitsOf_26 : decode cX1_unitsOf 26 = .ok (.iload_n 3, 1) := dk_29 (dk_at dksX1_unitsOf_1 3 rfl rfl)
theorem dX1_unitsOf_27 : decode cX1_unitsOf 27 = .ok (.laload, 1) := dk_47 (dk_at dksX1_unitsOf_1 4 rfl rfl)
theorem dX1_unitsOf_28 : decode cX1_unitsOf 28 = .ok (.invokevirtual 159, 3) := dk_182 0 159 (dk_at dksX1_unitsOf_1 5 rfl rfl)
theorem dX1_unitsOf_31 : decode cX1_unitsOf 31 = .ok (.aload_n 0, 1) := dk_42 (dk_at dksX1_unitsOf_1 8 rfl rfl)
theorem dX1_unitsOf_32 : decode cX1_unitsOf 32 = .ok (.getfield 18, 3) := dk_180 0 18 (dk_at dksX1_unitsOf_1 9 rfl rfl)
theorem dX1_unitsOf_35 : decode cX1_unitsOf 35 = .ok (.invokevirtual 163, 3) := dk_182 0 163 (dk_at dksX1_unitsOf_1 12 rfl rfl)
theorem dX1_unitsOf_38 : decode cX1_unitsOf 38 = .ok (.sipush 1134, 3) := dk_17 4 110 (dk_at dksX1_unitsOf_1 15 rfl rfl)
theorem dX1_unitsOf_41 : decode cX1_unitsOf 41 = .ok (.if_icmp .le 11, 3) := dk_164 0 11 (dk_at dksX1_unitsOf_1 18 rfl rfl)
theorem dX1_unitsOf_44 : decode cX1_unitsOf 44 = .ok (.new 164, 3) := dk_187 0 164 (dk_at dksX1_unitsOf_1 21 rfl rfl)
theorem dX1_unitsOf_47 : decode cX1_unitsOf 47 = .ok (.dup, 1) := dk_89 (dk_at dksX1_unitsOf_2 0 rfl rfl)
theorem dX1_unitsOf_48 : decode cX1_unitsOf 48 = .ok (.invokespecial 166, 3) := dk_183 0 166 (dk_at dksX1_unitsOf_2 1 rfl rfl)
theorem dX1_unitsOf_51 : decode cX1_unitsOf 51 = .ok (.athrow, 1) := dk_191 (dk_at dksX1_unitsOf_2 4 rfl rfl)
theorem dX1_unitsOf_52 : decode cX1_unitsOf 52 = .ok (.aload_n 0, 1) := dk_42 (dk_at dksX1_unitsOf_2 5 rfl rfl)
theorem dX1_unitsOf_53 : decode cX1_unitsOf 53 = .ok (.getfield 18, 3) := dk_180 0 18 (dk_at dksX1_unitsOf_2 6 rfl rfl)
theorem dX1_unitsOf_56 : decode cX1_unitsOf 56 = .ok (.sipush 1074, 3) := dk_17 4 50 (dk_at dksX1_unitsOf_2 9 rfl rfl)
theorem dX1_unitsOf_59 : decode cX1_unitsOf 59 = .ok (.invokevirtual 167, 3) := dk_182 0 167 (dk_at dksX1_unitsOf_2 12 rfl rfl)
theorem dX1_unitsOf_62 : decode cX1_unitsOf 62 = .ok (.lstore 4, 2) := dk_55 4 (dk_at dksX1_unitsOf_2 15 rfl rfl)
theorem dX1_unitsOf_64 : decode cX1_unitsOf 64 = .ok (.lload 4, 2) := dk_22 4 (dk_at dksX1_unitsOf_2 17 rfl rfl)
theorem dX1_unitsOf_66 : decode cX1_unitsOf 66 = .ok (.ldc2_w 171, 3) := dk_20 0 171 (dk_at dksX1_unitsOf_2 19 rfl rfl)
theorem dX1_unitsOf_69 : decode cX1_unitsOf 69 = .ok (.lcmp, 1) := dk_148 (dk_at dksX1_unitsOf_2 22 rfl rfl)
theorem dX1_unitsOf_70 : decode cX1_unitsOf 70 = .ok (.ifCond .le 11, 3) := dk_158 0 11 (dk_at dksX1_unitsOf_3 0 rfl rfl)
theorem dX1_unitsOf_73 : decode cX1_unitsOf 73 = .ok (.new 164, 3) := dk_187 0 164 (dk_at dksX1_unitsOf_3 3 rfl rfl)
theorem dX1_unitsOf_76 : decode cX1_unitsOf 76 = .ok (.dup, 1) := dk_89 (dk_at dksX1_unitsOf_3 6 rfl rfl)
theorem dX1_unitsOf_77 : decode cX1_unitsOf 77 = .ok (.invokespecial 166, 3) := dk_183 0 166 (dk_at dksX1_unitsOf_3 7 rfl rfl)
theorem dX1_unitsOf_80 : decode cX1_unitsOf 80 = .ok (.athrow, 1) := dk_191 (dk_at dksX1_unitsOf_3 10 rfl rfl)
theorem dX1_unitsOf_81 : decode cX1_unitsOf 81 = .ok (.dload_n 1, 1) := dk_39 (dk_at dksX1_unitsOf_3 11 rfl rfl)
theorem dX1_unitsOf_82 : decode cX1_unitsOf 82 = .ok (.dconst 0, 1) := dk_14 (dk_at dksX1_unitsOf_3 12 rfl rfl)
theorem dX1_unitsOf_83 : decode cX1_unitsOf 83 = .ok (.dcmp .g, 1) := dk_152 (dk_at dksX1_unitsOf_3 13 rfl rfl)
theorem dX1_unitsOf_84 : decode cX1_unitsOf 84 = .ok (.ifCond .ge 9, 3) := dk_156 0 9 (dk_at dksX1_unitsOf_3 14 rfl rfl)
theorem dX1_unitsOf_87 : decode cX1_unitsOf 87 = .ok (.lload 4, 2) := dk_22 4 (dk_at dksX1_unitsOf_3 17 rfl rfl)
theorem dX1_unitsOf_89 : decode cX1_unitsOf 89 = .ok (.lneg, 1) := dk_117 (dk_at dksX1_unitsOf_3 19 rfl rfl)
theorem dX1_unitsOf_90 : decode cX1_unitsOf 90 = .ok (.goto 5, 3) := dk_167 0 5 (dk_at dksX1_unitsOf_3 20 rfl rfl)
theorem dX1_unitsOf_93 : decode cX1_unitsOf 93 = .ok (.lload 4, 2) := dk_22 4 (dk_at dksX1_unitsOf_4 0 rfl rfl)
theorem dX1_unitsOf_95 : decode cX1_unitsOf 95 = .ok (.lreturn, 1) := dk_173 (dk_at dksX1_unitsOf_4 2 rfl rfl)
abbrev cX1_give : ByteArray := prog_1_method_20_code
def yX1_give : MethodName := ⟨RX1, "give", "(II)I"⟩
def dkwX1_give_1 : List UInt8 := [182, 0, 221, 167, 0, 5, 16, 152, 172]
abbrev dktX1_give_1 : List UInt8 := dkwX1_give_1 ++ []
def dkwX1_give_0 : List UInt8 := [42, 180, 0, 11, 27, 50, 78, 45, 28, 182, 0, 67, 57, 4, 45, 28, 182, 0, 217, 153, 0, 10, 45]
abbrev dktX1_give_0 : List UInt8 := dkwX1_give_0 ++ dktX1_give_1
theorem dksX1_give_0 : cX1_give.data.toList.drop 0 = dktX1_give_0 := by decide +kernel
theorem dksX1_give_1 : cX1_give.data.toList.drop 23 = dktX1_give_1 := dk_seg dksX1_give_0 23 rfl rfl
theorem dX1_give_0 : decode cX1_give 0 = .ok (.aload_n 0, 1) := dk_42 (dk_at dksX1_give_0 0 rfl rfl)
theorem dX1_give_1 : decode cX1_give 1 = .ok (.getfield 11, 3) := dk_180 0 11 (dk_at dksX1_give_0 1 rfl rfl)
theorem dX1_give_4 : decode cX1_give 4 = .ok (.iload_n 1, 1) := dk_27 (dk_at dksX1_give_0 4 rfl rfl)
theorem dX1_give_5 : decode cX1_give 5 = .ok (.aaload, 1) := dk_50 (dk_at dksX1_give_0 5 rfl rfl)
theorem dX1_give_6 : decode cX1_give 6 = .ok (.astore_n 3, 1) := dk_78 (dk_at dksX1_give_0 6 rfl rfl)
theorem dX1_give_7 : decode cX1_give 7 = .ok (.aload_n 3, 1) := dk_45 (dk_at dksX1_give_0 7 rfl rfl)
theorem dX1_give_8 : decode cX1_give 8 = .ok (.iload_n 2, 1) := dk_28 (dk_at dksX1_give_0 8 rfl rfl)
theorem dX1_give_9 : decode cX1_give 9 = .ok (.invokevirtual 67, 3) := dk_182 0 67 (dk_at dksX1_give_0 9 rfl rfl)
theorem dX1_give_12 : decode cX1_give 12 = .ok (.dstore 4, 2) := dk_57 4 (dk_at dksX1_give_0 12 rfl rfl)
theorem dX1_give_14 : decode cX1_give 14 = .ok (.aload_n 3, 1) := dk_45 (dk_at dksX1_give_0 14 rfl rfl)
theorem dX1_give_15 : decode cX1_give 15 = .ok (.iload_n 2, 1) := dk_28 (dk_at dksX1_give_0 15 rfl rfl)
theorem dX1_give_16 : decode cX1_give 16 = .ok (.invokevirtual 217, 3) := dk_182 0 217 (dk_at dksX1_give_0 16 rfl rfl)
theorem dX1_give_19 : decode cX1_give 19 = .ok (.ifCond .eq 10, 3) := dk_153 0 10 (dk_at dksX1_give_0 19 rfl rfl)
theorem dX1_give_22 : decode cX1_give 22 = .ok (.aload_n 3, 1) := dk_45 (dk_at dksX1_give_0 22 rfl rfl)
theorem dX1_give_23 : decode cX1_give 23 = .ok (.invokevirtual 221, 3) := dk_182 0 221 (dk_at dksX1_give_1 0 rfl rfl)
theorem dX1_give_26 : decode cX1_give 26 = .ok (.goto 5, 3) := dk_167 0 5 (dk_at dksX1_give_1 3 rfl rfl)
theorem dX1_give_29 : decode cX1_give 29 = .ok (.bipush (-104), 2) := dk_16 152 (dk_at dksX1_give_1 6 rfl rfl)
theorem dX1_give_31 : decode cX1_give 31 = .ok (.ireturn, 1) := dk_172 (dk_at dksX1_give_1 8 rfl rfl)
abbrev cX1_run : ByteArray := prog_1_method_21_code
def yX1_run : MethodName := ⟨RX1, "run", "(III)I"⟩
def dkwX1_run_8 : List UInt8 := [87, 42, 180, 0, 31, 185, 0, 250, 1, 0, 4, 100, 172]
abbrev dktX1_run_8 : List UInt8 := dkwX1_run_8 ++ []
def dkwX1_run_7 : List UInt8 := [185, 0, 250, 1, 0, 16, 60, 160, 0, 6, 16, 153, 172, 42, 180, 0, 31, 25, 6, 185, 0, 255, 2, 0]
abbrev dktX1_run_7 : List UInt8 := dkwX1_run_7 ++ dktX1_run_8
def dkwX1_run_6 : List UInt8 := [25, 6, 182, 0, 241, 181, 0, 247, 167, 0, 8, 58, 7, 16, 151, 172, 42, 180, 0, 31]
abbrev dktX1_run_6 : List UInt8 := dkwX1_run_6 ++ dktX1_run_7
def dkwX1_run_5 : List UInt8 := [28, 16, 13, 160, 0, 13, 42, 25, 4, 29, 182, 0, 233, 167, 0, 15, 28, 29, 184, 0, 237, 25, 4]
abbrev dktX1_run_5 : List UInt8 := dkwX1_run_5 ++ dktX1_run_6
def dkwX1_run_4 : List UInt8 := [28, 16, 13, 160, 0, 7, 3, 167, 0, 7, 21, 5, 4, 100, 184, 0, 123, 183, 0, 230, 58, 6, 25, 6]
abbrev dktX1_run_4 : List UInt8 := dkwX1_run_4 ++ dktX1_run_5
def dkwX1_run_3 : List UInt8 := [25, 4, 182, 0, 221, 21, 5, 162, 0, 6, 16, 152, 172, 187, 0, 228, 89, 25, 4, 182, 0, 105, 28, 3]
abbrev dktX1_run_3 : List UInt8 := dkwX1_run_3 ++ dktX1_run_4
def dkwX1_run_2 : List UInt8 := [16, 154, 172, 42, 180, 0, 11, 27, 50, 58, 4, 25, 4, 182, 0, 101, 54, 5, 28, 16, 6, 160, 0, 16]
abbrev dktX1_run_2 : List UInt8 := dkwX1_run_2 ++ dktX1_run_3
def dkwX1_run_1 : List UInt8 := [184, 0, 57, 153, 0, 21, 28, 16, 13, 160, 0, 18, 29, 133, 9, 20, 0, 99, 184, 0, 57, 154, 0, 6]
abbrev dktX1_run_1 : List UInt8 := dkwX1_run_1 ++ dktX1_run_2
def dkwX1_run_0 : List UInt8 := [28, 133, 9, 20, 0, 224, 184, 0, 57, 153, 0, 39, 28, 16, 9, 160, 0, 15, 29, 133, 10, 20, 0, 226]
abbrev dktX1_run_0 : List UInt8 := dkwX1_run_0 ++ dktX1_run_1
theorem dksX1_run_0 : cX1_run.data.toList.drop 0 = dktX1_run_0 := by decide +kernel
theorem dksX1_run_1 : cX1_run.data.toList.drop 24 = dktX1_run_1 := dk_seg dksX1_run_0 24 rfl rfl
theorem dksX1_run_2 : cX1_run.data.toList.drop 48 = dktX1_run_2 := dk_seg dksX1_run_1 24 rfl rfl
theorem dksX1_run_3 : cX1_run.data.toList.drop 72 = dktX1_run_3 := dk_seg dksX1_run_2 24 rfl rfl
theorem dksX1_run_4 : cX1_run.data.toList.drop 96 = dktX1_run_4 := dk_seg dksX1_run_3 24 rfl rfl
theorem dksX1_run_5 : cX1_run.data.toList.drop 120 = dktX1_run_5 := dk_seg dksX1_run_4 24 rfl rfl
theorem dksX1_run_6 : cX1_run.data.toList.drop 143 = dktX1_run_6 := dk_seg dksX1_run_5 23 rfl rfl
theorem dksX1_run_7 : cX1_run.data.toList.drop 163 = dktX1_run_7 := dk_seg dksX1_run_6 20 rfl rfl
theorem dksX1_run_8 : cX1_run.data.toList.drop 187 = dktX1_run_8 := dk_seg dksX1_run_7 24 rfl rfl
theorem dX1_run_0 : decode cX1_run 0 = .ok (.iload_n 2, 1) := dk_28 (dk_at dksX1_run_0 0 rfl rfl)
theorem dX1_run_1 : decode cX1_run 1 = .ok (.i2l, 1) := dk_133 (dk_at dksX1_run_0 1 rfl rfl)
theorem dX1_run_2 : decode cX1_run 2 = .ok (.lconst 0, 1) := dk_9 (dk_at dksX1_run_0 2 rfl rfl)
theorem dX1_run_3 : decode cX1_run 3 = .ok (.ldc2_w 224, 3) := dk_20 0 224 (dk_at dksX1_run_0 3 rfl rfl)
theorem dX1_run_6 : decode cX1_run 6 = .ok (.invokestatic 57, 3) := dk_184 0 57 (dk_at dksX1_run_0 6 rfl rfl)
theorem dX1_run_9 : decode cX1_run 9 = .ok (.ifCond .eq 39, 3) := dk_153 0 39 (dk_at dksX1_run_0 9 rfl rfl)
theorem dX1_run_12 : decode cX1_run 12 = .ok (.iload_n 2, 1) := dk_28 (dk_at dksX1_run_0 12 rfl rfl)
theorem dX1_run_13 : decode cX1_run 13 = .ok (.bipush 9, 2) := dk_16 9 (dk_at dksX1_run_0 13 rfl rfl)
theorem dX1_run_15 : decode cX1_run 15 = .ok (.if_icmp .ne 15, 3) := dk_160 0 15 (dk_at dksX1_run_0 15 rfl rfl)
theorem dX1_run_18 : decode cX1_run 18 = .ok (.iload_n 3, 1) := dk_29 (dk_at dksX1_run_0 18 rfl rfl)
theorem dX1_run_19 : decode cX1_run 19 = .ok (.i2l, 1) := dk_133 (dk_at dksX1_run_0 19 rfl rfl)
theorem dX1_run_20 : decode cX1_run 20 = .ok (.lconst 1, 1) := dk_10 (dk_at dksX1_run_0 20 rfl rfl)
theorem dX1_run_21 : decode cX1_run 21 = .ok (.ldc2_w 226, 3) := dk_20 0 226 (dk_at dksX1_run_0 21 rfl rfl)
theorem dX1_run_24 : decode cX1_run 24 = .ok (.invokestatic 57, 3) := dk_184 0 57 (dk_at dksX1_run_1 0 rfl rfl)
theorem dX1_run_27 : decode cX1_run 27 = .ok (.ifCond .eq 21, 3) := dk_153 0 21 (dk_at dksX1_run_1 3 rfl rfl)
theorem dX1_run_30 : decode cX1_run 30 = .ok (.iload_n 2, 1) := dk_28 (dk_at dksX1_run_1 6 rfl rfl)
theorem dX1_run_31 : decode cX1_run 31 = .ok (.bipush 13, 2) := dk_16 13 (dk_at dksX1_run_1 7 rfl rfl)
theorem dX1_run_33 : decode cX1_run 33 = .ok (.if_icmp .ne 18, 3) := dk_160 0 18 (dk_at dksX1_run_1 9 rfl rfl)
theorem dX1_run_36 : decode cX1_run 36 = .ok (.iload_n 3, 1) := dk_29 (dk_at dksX1_run_1 12 rfl rfl)
theorem dX1_run_37 : decode cX1_run 37 = .ok (.i2l, 1) := dk_133 (dk_at dksX1_run_1 13 rfl rfl)
theorem dX1_run_38 : decode cX1_run 38 = .ok (.lconst 0, 1) := dk_9 (dk_at dksX1_run_1 14 rfl rfl)
theorem dX1_run_39 : decode cX1_run 39 = .ok (.ldc2_w 99, 3) := dk_20 0 99 (dk_at dksX1_run_1 15 rfl rfl)
theorem dX1_run_42 : decode cX1_run 42 = .ok (.invokestatic 57, 3) := dk_184 0 57 (dk_at dksX1_run_1 18 rfl rfl)
theorem dX1_run_45 : decode cX1_run 45 = .ok (.ifCond .ne 6, 3) := dk_154 0 6 (dk_at dksX1_run_1 21 rfl rfl)
theorem dX1_run_48 : decode cX1_run 48 = .ok (.bipush (-102), 2) := dk_16 154 (dk_at dksX1_run_2 0 rfl rfl)
theorem dX1_run_50 : decode cX1_run 50 = .ok (.ireturn, 1) := dk_172 (dk_at dksX1_run_2 2 rfl rfl)
theorem dX1_run_51 : decode cX1_run 51 = .ok (.aload_n 0, 1) := dk_42 (dk_at dksX1_run_2 3 rfl rfl)
theorem dX1_run_52 : decode cX1_run 52 = .ok (.getfield 11, 3) := dk_180 0 11 (dk_at dksX1_run_2 4 rfl rfl)
theorem dX1_run_55 : decode cX1_run 55 = .ok (.iload_n 1, 1) := dk_27 (dk_at dksX1_run_2 7 rfl rfl)
theorem dX1_run_56 : decode cX1_run 56 = .ok (.aaload, 1) := dk_50 (dk_at dksX1_run_2 8 rfl rfl)
theorem dX1_run_57 : decode cX1_run 57 = .ok (.astore 4, 2) := dk_58 4 (dk_at dksX1_run_2 9 rfl rfl)
theorem dX1_run_59 : decode cX1_run 59 = .ok (.aload 4, 2) := dk_25 4 (dk_at dksX1_run_2 11 rfl rfl)
theorem dX1_run_61 : decode cX1_run 61 = .ok (.invokevirtual 101, 3) := dk_182 0 101 (dk_at dksX1_run_2 13 rfl rfl)
theorem dX1_run_64 : decode cX1_run 64 = .ok (.istore 5, 2) := dk_54 5 (dk_at dksX1_run_2 16 rfl rfl)
theorem dX1_run_66 : decode cX1_run 66 = .ok (.iload_n 2, 1) := dk_28 (dk_at dksX1_run_2 18 rfl rfl)
theorem dX1_run_67 : decode cX1_run 67 = .ok (.bipush 6, 2) := dk_16 6 (dk_at dksX1_run_2 19 rfl rfl)
theorem dX1_run_69 : decode cX1_run 69 = .ok (.if_icmp .ne 16, 3) := dk_160 0 16 (dk_at dksX1_run_2 21 rfl rfl)
theorem dX1_run_72 : decode cX1_run 72 = .ok (.aload 4, 2) := dk_25 4 (dk_at dksX1_run_3 0 rfl rfl)
theorem dX1_run_74 : decode cX1_run 74 = .ok (.invokevirtual 221, 3) := dk_182 0 221 (dk_at dksX1_run_3 2 rfl rfl)
theorem dX1_run_77 : decode cX1_run 77 = .ok (.iload 5, 2) := dk_21 5 (dk_at dksX1_run_3 5 rfl rfl)
theorem dX1_run_79 : decode cX1_run 79 = .ok (.if_icmp .ge 6, 3) := dk_162 0 6 (dk_at dksX1_run_3 7 rfl rfl)
theorem dX1_run_82 : decode cX1_run 82 = .ok (.bipush (-104), 2) := dk_16 152 (dk_at dksX1_run_3 10 rfl rfl)
theorem dX1_run_84 : decode cX1_run 84 = .ok (.ireturn, 1) := dk_172 (dk_at dksX1_run_3 12 rfl rfl)
theorem dX1_run_85 : decode cX1_run 85 = .ok (.new 228, 3) := dk_187 0 228 (dk_at dksX1_run_3 13 rfl rfl)
theorem dX1_run_88 : decode cX1_run 88 = .ok (.dup, 1) := dk_89 (dk_at dksX1_run_3 16 rfl rfl)
theorem dX1_run_89 : decode cX1_run 89 = .ok (.aload 4, 2) := dk_25 4 (dk_at dksX1_run_3 17 rfl rfl)
theorem dX1_run_91 : decode cX1_run 91 = .ok (.invokevirtual 105, 3) := dk_182 0 105 (dk_at dksX1_run_3 19 rfl rfl)
theorem dX1_run_94 : decode cX1_run 94 = .ok (.iload_n 2, 1) := dk_28 (dk_at dksX1_run_3 22 rfl rfl)
theorem dX1_run_95 : decode cX1_run 95 = .ok (.iconst 0, 1) := dk_3 (dk_at dksX1_run_3 23 rfl rfl)
theorem dX1_run_96 : decode cX1_run 96 = .ok (.iload_n 2, 1) := dk_28 (dk_at dksX1_run_4 0 rfl rfl)
theorem dX1_run_97 : decode cX1_run 97 = .ok (.bipush 13, 2) := dk_16 13 (dk_at dksX1_run_4 1 rfl rfl)
theorem dX1_run_99 : decode cX1_run 99 = .ok (.if_icmp .ne 7, 3) := dk_160 0 7 (dk_at dksX1_run_4 3 rfl rfl)
theorem dX1_run_102 : decode cX1_run 102 = .ok (.iconst 0, 1) := dk_3 (dk_at dksX1_run_4 6 rfl rfl)
theorem dX1_run_103 : decode cX1_run 103 = .ok (.goto 7, 3) := dk_167 0 7 (dk_at dksX1_run_4 7 rfl rfl)
theorem dX1_run_106 : decode cX1_run 106 = .ok (.iload 5, 2) := dk_21 5 (dk_at dksX1_run_4 10 rfl rfl)
theorem dX1_run_108 : decode cX1_run 108 = .ok (.iconst 1, 1) := dk_4 (dk_at dksX1_run_4 12 rfl rfl)
theorem dX1_run_109 : decode cX1_run 109 = .ok (.isub, 1) := dk_100 (dk_at dksX1_run_4 13 rfl rfl)
theorem dX1_run_110 : decode cX1_run 110 = .ok (.invokestatic 123, 3) := dk_184 0 123 (dk_at dksX1_run_4 14 rfl rfl)
theorem dX1_run_113 : decode cX1_run 113 = .ok (.invokespecial 230, 3) := dk_183 0 230 (dk_at dksX1_run_4 17 rfl rfl)
theorem dX1_run_116 : decode cX1_run 116 = .ok (.astore 6, 2) := dk_58 6 (dk_at dksX1_run_4 20 rfl rfl)
theorem dX1_run_118 : decode cX1_run 118 = .ok (.aload 6, 2) := dk_25 6 (dk_at dksX1_run_4 22 rfl rfl)
theorem dX1_run_120 : decode cX1_run 120 = .ok (.iload_n 2, 1) := dk_28 (dk_at dksX1_run_5 0 rfl rfl)
theorem dX1_run_121 : decode cX1_run 121 = .ok (.bipush 13, 2) := dk_16 13 (dk_at dksX1_run_5 1 rfl rfl)
theorem dX1_run_123 : decode cX1_run 123 = .ok (.if_icmp .ne 13, 3) := dk_160 0 13 (dk_at dksX1_run_5 3 rfl rfl)
theorem dX1_run_126 : decode cX1_run 126 = .ok (.aload_n 0, 1) := dk_42 (dk_at dksX1_run_5 6 rfl rfl)
theorem dX1_run_127 : decode cX1_run 127 = .ok (.aload 4, 2) := dk_25 4 (dk_at dksX1_run_5 7 rfl rfl)
theorem dX1_run_129 : decode cX1_run 129 = .ok (.iload_n 3, 1) := dk_29 (dk_at dksX1_run_5 9 rfl rfl)
theorem dX1_run_130 : decode cX1_run 130 = .ok (.invokevirtual 233, 3) := dk_182 0 233 (dk_at dksX1_run_5 10 rfl rfl)
theorem dX1_run_133 : decode cX1_run 133 = .ok (.goto 15, 3) := dk_167 0 15 (dk_at dksX1_run_5 13 rfl rfl)
theorem dX1_run_136 : decode cX1_run 136 = .ok (.iload_n 2, 1) := dk_28 (dk_at dksX1_run_5 16 rfl rfl)
theorem dX1_run_137 : decode cX1_run 137 = .ok (.iload_n 3, 1) := dk_29 (dk_at dksX1_run_5 17 rfl rfl)
theorem dX1_run_138 : decode cX1_run 138 = .ok (.invokestatic 237, 3) := dk_184 0 237 (dk_at dksX1_run_5 18 rfl rfl)
theorem dX1_run_141 : decode cX1_run 141 = .ok (.aload 4, 2) := dk_25 4 (dk_at dksX1_run_5 21 rfl rfl)
theorem dX1_run_143 : decode cX1_run 143 = .ok (.aload 6, 2) := dk_25 6 (dk_at dksX1_run_6 0 rfl rfl)
theorem dX1_run_145 : decode cX1_run 145 = .ok (.invokevirtual 241, 3) := dk_182 0 241 (dk_at dksX1_run_6 2 rfl rfl)
theorem dX1_run_148 : decode cX1_run 148 = .ok (.putfield 247, 3) := dk_181 0 247 (dk_at dksX1_run_6 5 rfl rfl)
theorem dX1_run_151 : decode cX1_run 151 = .ok (.goto 8, 3) := dk_167 0 8 (dk_at dksX1_run_6 8 rfl rfl)
theorem dX1_run_154 : decode cX1_run 154 = .ok (.astore 7, 2) := dk_58 7 (dk_at dksX1_run_6 11 rfl rfl)
theorem dX1_run_156 : decode cX1_run 156 = .ok (.bipush (-105), 2) := dk_16 151 (dk_at dksX1_run_6 13 rfl rfl)
theorem dX1_run_158 : decode cX1_run 158 = .ok (.ireturn, 1) := dk_172 (dk_at dksX1_run_6 15 rfl rfl)
theorem dX1_run_159 : decode cX1_run 159 = .ok (.aload_n 0, 1) := dk_42 (dk_at dksX1_run_6 16 rfl rfl)
theorem dX1_run_160 : decode cX1_run 160 = .ok (.getfield 31, 3) := dk_180 0 31 (dk_at dksX1_run_6 17 rfl rfl)
theorem dX1_run_163 : decode cX1_run 163 = .ok (.invokeinterface 250 1, 5) := by decide +kernel
theorem dX1_run_168 : decode cX1_run 168 = .ok (.bipush 60, 2) := dk_16 60 (dk_at dksX1_run_7 5 rfl rfl)
theorem dX1_run_170 : decode cX1_run 170 = .ok (.if_icmp .ne 6, 3) := dk_160 0 6 (dk_at dksX1_run_7 7 rfl rfl)
theorem dX1_run_173 : decode cX1_run 173 = .ok (.bipush (-103), 2) := dk_16 153 (dk_at dksX1_run_7 10 rfl rfl)
theorem dX1_run_175 : decode cX1_run 175 = .ok (.ireturn, 1) := dk_172 (dk_at dksX1_run_7 12 rfl rfl)
theorem dX1_run_176 : decode cX1_run 176 = .ok (.aload_n 0, 1) := dk_42 (dk_at dksX1_run_7 13 rfl rfl)
theorem dX1_run_177 : decode cX1_run 177 = .ok (.getfield 31, 3) := dk_180 0 31 (dk_at dksX1_run_7 14 rfl rfl)
theorem dX1_run_180 : decode cX1_run 180 = .ok (.aload 6, 2) := dk_25 6 (dk_at dksX1_run_7 17 rfl rfl)
theorem dX1_run_182 : decode cX1_run 182 = .ok (.invokeinterface 255 2, 5) := by decide +kernel
theorem dX1_run_187 : decode cX1_run 187 = .ok (.pop, 1) := dk_87 (dk_at dksX1_run_8 0 rfl rfl)
theorem dX1_run_188 : decode cX1_run 188 = .ok (.aload_n 0, 1) := dk_42 (dk_at dksX1_run_8 1 rfl rfl)
theorem dX1_run_189 : decode cX1_run 189 = .ok (.getfield 31, 3) := dk_180 0 31 (dk_at dksX1_run_8 2 rfl rfl)
theorem dX1_run_192 : decode cX1_run 192 = .ok (.invokeinterface 250 1, 5) := by decide +kernel
theorem dX1_run_197 : decode cX1_run 197 = .ok (.iconst 1, 1) := dk_4 (dk_at dksX1_run_8 10 rfl rfl)
theorem dX1_run_198 : decode cX1_run 198 = .ok (.isub, 1) := dk_100 (dk_at dksX1_run_8 11 rfl rfl)
theorem dX1_run_199 : decode cX1_run 199 = .ok (.ireturn, 1) := dk_172 (dk_at dksX1_run_8 12 rfl rfl)
abbrev cX1_unitTotal : ByteArray := prog_1_method_19_code
def yX1_unitTotal : MethodName := ⟨RX1, "unitTotal", "(LRoundingAuditor$Ledger;I)D"⟩
def dkwX1_unitTotal_2 : List UInt8 := [182, 0, 105, 153, 0, 8, 24, 5, 167, 0, 7, 24, 5, 144, 141, 175]
abbrev dktX1_unitTotal_2 : List UInt8 := dkwX1_unitTotal_2 ++ []
def dkwX1_unitTotal_1 : List UInt8 := [182, 0, 173, 97, 66, 132, 5, 1, 167, 255, 230, 33, 138, 178, 0, 155, 28, 47, 138, 111, 57, 5, 43]
abbrev dktX1_unitTotal_1 : List UInt8 := dkwX1_unitTotal_1 ++ dktX1_unitTotal_2
def dkwX1_unitTotal_0 : List UInt8 := [9, 66, 3, 54, 5, 21, 5, 43, 182, 0, 101, 162, 0, 23, 33, 42, 43, 21, 5, 182, 0, 67, 28]
abbrev dktX1_unitTotal_0 : List UInt8 := dkwX1_unitTotal_0 ++ dktX1_unitTotal_1
theorem dksX1_unitTotal_0 : cX1_unitTotal.data.toList.drop 0 = dktX1_unitTotal_0 := by decide +kernel
theorem dksX1_unitTotal_1 : cX1_unitTotal.data.toList.drop 23 = dktX1_unitTotal_1 := dk_seg dksX1_unitTotal_0 23 rfl rfl
theorem dksX1_unitTotal_2 : cX1_unitTotal.data.toList.drop 46 = dktX1_unitTotal_2 := dk_seg dksX1_unitTotal_1 23 rfl rfl
theorem dX1_unitTotal_0 : decode cX1_unitTotal 0 = .ok (.lconst 0, 1) := dk_9 (dk_at dksX1_unitTotal_0 0 rfl rfl)
theorem dX1_unitTotal_1 : decode cX1_unitTotal 1 = .ok (.lstore_n 3, 1) := dk_66 (dk_at dksX1_unitTotal_0 1 rfl rfl)
theorem dX1_unitTotal_2 : decode cX1_unitTotal 2 = .ok (.iconst 0, 1) := dk_3 (dk_at dksX1_unitTotal_0 2 rfl rfl)
theorem dX1_unitTotal_3 : decode cX1_unitTotal 3 = .ok (.istore 5, 2) := dk_54 5 (dk_at dksX1_unitTotal_0 3 rfl rfl)
theorem dX1_unitTotal_5 : decode cX1_unitTotal 5 = .ok (.iload 5, 2) := dk_21 5 (dk_at dksX1_unitTotal_0 5 rfl rfl)
theorem dX1_unitTotal_7 : decode cX1_unitTotal 7 = .ok (.aload_n 1, 1) := dk_43 (dk_at dksX1_unitTotal_0 7 rfl rfl)
theorem dX1_unitTotal_8 : decode cX1_unitTotal 8 = .ok (.invokevirtual 101, 3) := dk_182 0 101 (dk_at dksX1_unitTotal_0 8 rfl rfl)
theorem dX1_unitTotal_11 : decode cX1_unitTotal 11 = .ok (.if_icmp .ge 23, 3) := dk_162 0 23 (dk_at dksX1_unitTotal_0 11 rfl rfl)
theorem dX1_unitTotal_14 : decode cX1_unitTotal 14 = .ok (.lload_n 3, 1) := dk_33 (dk_at dksX1_unitTotal_0 14 rfl rfl)
theorem dX1_unitTotal_15 : decode cX1_unitTotal 15 = .ok (.aload_n 0, 1) := dk_42 (dk_at dksX1_unitTotal_0 15 rfl rfl)
theorem dX1_unitTotal_16 : decode cX1_unitTotal 16 = .ok (.aload_n 1, 1) := dk_43 (dk_at dksX1_unitTotal_0 16 rfl rfl)
theorem dX1_unitTotal_17 : decode cX1_unitTotal 17 = .ok (.iload 5, 2) := dk_21 5 (dk_at dksX1_unitTotal_0 17 rfl rfl)
theorem dX1_unitTotal_19 : decode cX1_unitTotal 19 = .ok (.invokevirtual 67, 3) := dk_182 0 67 (dk_at dksX1_unitTotal_0 19 rfl rfl)
theorem dX1_unitTotal_22 : decode cX1_unitTotal 22 = .ok (.iload_n 2, 1) := dk_28 (dk_at dksX1_unitTotal_0 22 rfl rfl)
theorem dX1_unitTotal_23 : decode cX1_unitTotal 23 = .ok (.invokevirtual 173, 3) := dk_182 0 173 (dk_at dksX1_unitTotal_1 0 rfl rfl)
theorem dX1_unitTotal_26 : decode cX1_unitTotal 26 = .ok (.ladd, 1) := dk_97 (dk_at dksX1_unitTotal_1 3 rfl rfl)
theorem dX1_unitTotal_27 : decode cX1_unitTotal 27 = .ok (.lstore_n 3, 1) := dk_66 (dk_at dksX1_unitTotal_1 4 rfl rfl)
theorem dX1_unitTotal_28 : decode cX1_unitTotal 28 = .ok (.iinc 5 1, 3) := dk_132 5 1 (dk_at dksX1_unitTotal_1 5 rfl rfl)
theorem dX1_unitTotal_31 : decode cX1_unitTotal 31 = .ok (.goto (-26), 3) := dk_167 255 230 (dk_at dksX1_unitTotal_1 8 rfl rfl)
theorem dX1_unitTotal_34 : decode cX1_unitTotal 34 = .ok (.lload_n 3, 1) := dk_33 (dk_at dksX1_unitTotal_1 11 rfl rfl)
theorem dX1_unitTotal_35 : decode cX1_unitTotal 35 = .ok (.l2d, 1) := dk_138 (dk_at dksX1_unitTotal_1 12 rfl rfl)
theorem dX1_unitTotal_36 : decode cX1_unitTotal 36 = .ok (.getstatic 155, 3) := dk_178 0 155 (dk_at dksX1_unitTotal_1 13 rfl rfl)
theorem dX1_unitTotal_39 : decode cX1_unitTotal 39 = .ok (.iload_n 2, 1) := dk_28 (dk_at dksX1_unitTotal_1 16 rfl rfl)
theorem dX1_unitTotal_40 : decode cX1_unitTotal 40 = .ok (.laload, 1) := dk_47 (dk_at dksX1_unitTotal_1 17 rfl rfl)
theorem dX1_unitTotal_41 : decode cX1_unitTotal 41 = .ok (.l2d, 1) := dk_138 (dk_at dksX1_unitTotal_1 18 rfl rfl)
theorem dX1_unitTotal_42 : decode cX1_unitTotal 42 = .ok (.ddiv, 1) := dk_111 (dk_at dksX1_unitTotal_1 19 rfl rfl)
theorem dX1_unitTotal_43 : decode cX1_unitTotal 43 = .ok (.dstore 5, 2) := dk_57 5 (dk_at dksX1_unitTotal_1 20 rfl rfl)
theorem dX1_unitTotal_45 : decode cX1_unitTotal 45 = .ok (.aload_n 1, 1) := dk_43 (dk_at dksX1_unitTotal_1 22 rfl rfl)
theorem dX1_unitTotal_46 : decode cX1_unitTotal 46 = .ok (.invokevirtual 105, 3) := dk_182 0 105 (dk_at dksX1_unitTotal_2 0 rfl rfl)
theorem dX1_unitTotal_49 : decode cX1_unitTotal 49 = .ok (.ifCond .eq 8, 3) := dk_153 0 8 (dk_at dksX1_unitTotal_2 3 rfl rfl)
theorem dX1_unitTotal_52 : decode cX1_unitTotal 52 = .ok (.dload 5, 2) := dk_24 5 (dk_at dksX1_unitTotal_2 6 rfl rfl)
theorem dX1_unitTotal_54 : decode cX1_unitTotal 54 = .ok (.goto 7, 3) := dk_167 0 7 (dk_at dksX1_unitTotal_2 8 rfl rfl)
theorem dX1_unitTotal_57 : decode cX1_unitTotal 57 = .ok (.dload 5, 2) := dk_24 5 (dk_at dksX1_unitTotal_2 11 rfl rfl)
theorem dX1_unitTotal_59 : decode cX1_unitTotal 59 = .ok (.d2f, 1) := dk_144 (dk_at dksX1_unitTotal_2 13 rfl rfl)
theorem dX1_unitTotal_60 : decode cX1_unitTotal 60 = .ok (.f2d, 1) := dk_141 (dk_at dksX1_unitTotal_2 14 rfl rfl)
theorem dX1_unitTotal_61 : decode cX1_unitTotal 61 = .ok (.dreturn, 1) := dk_175 (dk_at dksX1_unitTotal_2 15 rfl rfl)
abbrev cX1_wayOf : ByteArray := prog_1_method_18_code
def yX1_wayOf : MethodName := ⟨RX1, "wayOf", "(II)LRoundingAuditor$Way;"⟩
def dkwX1_wayOf_6 : List UInt8 := [176, 187, 0, 214, 89, 183, 0, 216, 176]
abbrev dktX1_wayOf_6 : List UInt8 := dkwX1_wayOf_6 ++ []
def dkwX1_wayOf_5 : List UInt8 := [187, 0, 205, 89, 27, 183, 0, 207, 176, 187, 0, 208, 89, 183, 0, 210, 176, 187, 0, 211, 89, 183, 0, 213]
abbrev dktX1_wayOf_5 : List UInt8 := dkwX1_wayOf_5 ++ dktX1_wayOf_6
def dkwX1_wayOf_4 : List UInt8 := [187, 0, 196, 89, 183, 0, 198, 176, 187, 0, 199, 89, 183, 0, 201, 176, 187, 0, 202, 89, 183, 0, 204, 176]
abbrev dktX1_wayOf_4 : List UInt8 := dkwX1_wayOf_4 ++ dktX1_wayOf_5
def dkwX1_wayOf_3 : List UInt8 := [187, 0, 187, 89, 183, 0, 189, 176, 187, 0, 190, 89, 183, 0, 192, 176, 187, 0, 193, 89, 183, 0, 195, 176]
abbrev dktX1_wayOf_3 : List UInt8 := dkwX1_wayOf_3 ++ dktX1_wayOf_4
def dkwX1_wayOf_2 : List UInt8 := [187, 0, 178, 89, 183, 0, 180, 176, 187, 0, 181, 89, 183, 0, 183, 176, 187, 0, 184, 89, 183, 0, 186, 176]
abbrev dktX1_wayOf_2 : List UInt8 := dkwX1_wayOf_2 ++ dktX1_wayOf_3
def dkwX1_wayOf_1 : List UInt8 := [170, 0, 0, 0, 0, 0, 160, 0, 0, 0, 0, 0, 0, 0, 11, 0, 0, 0, 63, 0, 0, 0, 71, 0, 0, 0, 79, 0, 0, 0, 87, 0, 0, 0, 95, 0, 0, 0, 103, 0, 0, 0, 111, 0, 0, 0, 119, 0, 0, 0, 127, 0, 0, 0, 135, 0, 0, 0, 144, 0, 0, 0, 152]
abbrev dktX1_wayOf_1 : List UInt8 := dkwX1_wayOf_1 ++ dktX1_wayOf_2
def dkwX1_wayOf_0 : List UInt8 := [26]
abbrev dktX1_wayOf_0 : List UInt8 := dkwX1_wayOf_0 ++ dktX1_wayOf_1
theorem dksX1_wayOf_0 : cX1_wayOf.data.toList.drop 0 = dktX1_wayOf_0 := by decide +kernel
theorem dksX1_wayOf_1 : cX1_wayOf.data.toList.drop 1 = dktX1_wayOf_1 := dk_seg dksX1_wayOf_0 1 rfl rfl
theorem dksX1_wayOf_2 : cX1_wayOf.data.toList.drop 64 = dktX1_wayOf_2 := dk_seg dksX1_wayOf_1 63 rfl rfl
theorem dksX1_wayOf_3 : cX1_wayOf.data.toList.drop 88 = dktX1_wayOf_3 := dk_seg dksX1_wayOf_2 24 rfl rfl
theorem dksX1_wayOf_4 : cX1_wayOf.data.toList.drop 112 = dktX1_wayOf_4 := dk_seg dksX1_wayOf_3 24 rfl rfl
theorem dksX1_wayOf_5 : cX1_wayOf.data.toList.drop 136 = dktX1_wayOf_5 := dk_seg dksX1_wayOf_4 24 rfl rfl
theorem dksX1_wayOf_6 : cX1_wayOf.data.toList.drop 160 = dktX1_wayOf_6 := dk_seg dksX1_wayOf_5 24 rfl rfl
theorem dX1_wayOf_0 : decode cX1_wayOf 0 = .ok (.iload_n 0, 1) := dk_26 (dk_at dksX1_wayOf_0 0 rfl rfl)
theorem dX1_wayOf_1 : decode cX1_wayOf 1 = .ok (.tableswitch 160 0 11 #[63, 71, 79, 87, 95, 103, 111, 119, 127, 135, 144, 152], 63) := by decide +kernel
theorem dX1_wayOf_64 : decode cX1_wayOf 64 = .ok (.new 178, 3) := dk_187 0 178 (dk_at dksX1_wayOf_2 0 rfl rfl)
theorem dX1_wayOf_67 : decode cX1_wayOf 67 = .ok (.dup, 1) := dk_89 (dk_at dksX1_wayOf_2 3 rfl rfl)
theorem dX1_wayOf_68 : decode cX1_wayOf 68 = .ok (.invokespecial 180, 3) := dk_183 0 180 (dk_at dksX1_wayOf_2 4 rfl rfl)
theorem dX1_wayOf_71 : decode cX1_wayOf 71 = .ok (.areturn, 1) := dk_176 (dk_at dksX1_wayOf_2 7 rfl rfl)
theorem dX1_wayOf_72 : decode cX1_wayOf 72 = .ok (.new 181, 3) := dk_187 0 181 (dk_at dksX1_wayOf_2 8 rfl rfl)
theorem dX1_wayOf_75 : decode cX1_wayOf 75 = .ok (.dup, 1) := dk_89 (dk_at dksX1_wayOf_2 11 rfl rfl)
theorem dX1_wayOf_76 : decode cX1_wayOf 76 = .ok (.invokespecial 183, 3) := dk_183 0 183 (dk_at dksX1_wayOf_2 12 rfl rfl)
theorem dX1_wayOf_79 : decode cX1_wayOf 79 = .ok (.areturn, 1) := dk_176 (dk_at dksX1_wayOf_2 15 rfl rfl)
theorem dX1_wayOf_80 : decode cX1_wayOf 80 = .ok (.new 184, 3) := dk_187 0 184 (dk_at dksX1_wayOf_2 16 rfl rfl)
theorem dX1_wayOf_83 : decode cX1_wayOf 83 = .ok (.dup, 1) := dk_89 (dk_at dksX1_wayOf_2 19 rfl rfl)
theorem dX1_wayOf_84 : decode cX1_wayOf 84 = .ok (.invokespecial 186, 3) := dk_183 0 186 (dk_at dksX1_wayOf_2 20 rfl rfl)
theorem dX1_wayOf_87 : decode cX1_wayOf 87 = .ok (.areturn, 1) := dk_176 (dk_at dksX1_wayOf_2 23 rfl rfl)
theorem dX1_wayOf_88 : decode cX1_wayOf 88 = .ok (.new 187, 3) := dk_187 0 187 (dk_at dksX1_wayOf_3 0 rfl rfl)
theorem dX1_wayOf_91 : decode cX1_wayOf 91 = .ok (.dup, 1) := dk_89 (dk_at dksX1_wayOf_3 3 rfl rfl)
theorem dX1_wayOf_92 : decode cX1_wayOf 92 = .ok (.invokespecial 189, 3) := dk_183 0 189 (dk_at dksX1_wayOf_3 4 rfl rfl)
theorem dX1_wayOf_95 : decode cX1_wayOf 95 = .ok (.areturn, 1) := dk_176 (dk_at dksX1_wayOf_3 7 rfl rfl)
theorem dX1_wayOf_96 : decode cX1_wayOf 96 = .ok (.new 190, 3) := dk_187 0 190 (dk_at dksX1_wayOf_3 8 rfl rfl)
theorem dX1_wayOf_99 : decode cX1_wayOf 99 = .ok (.dup, 1) := dk_89 (dk_at dksX1_wayOf_3 11 rfl rfl)
theorem dX1_wayOf_100 : decode cX1_wayOf 100 = .ok (.invokespecial 192, 3) := dk_183 0 192 (dk_at dksX1_wayOf_3 12 rfl rfl)
theorem dX1_wayOf_103 : decode cX1_wayOf 103 = .ok (.areturn, 1) := dk_176 (dk_at dksX1_wayOf_3 15 rfl rfl)
theorem dX1_wayOf_104 : decode cX1_wayOf 104 = .ok (.new 193, 3) := dk_187 0 193 (dk_at dksX1_wayOf_3 16 rfl rfl)
theorem dX1_wayOf_107 : decode cX1_wayOf 107 = .ok (.dup, 1) := dk_89 (dk_at dksX1_wayOf_3 19 rfl rfl)
theorem dX1_wayOf_108 : decode cX1_wayOf 108 = .ok (.invokespecial 195, 3) := dk_183 0 195 (dk_at dksX1_wayOf_3 20 rfl rfl)
theorem dX1_wayOf_111 : decode cX1_wayOf 111 = .ok (.areturn, 1) := dk_176 (dk_at dksX1_wayOf_3 23 rfl rfl)
theorem dX1_wayOf_112 : decode cX1_wayOf 112 = .ok (.new 196, 3) := dk_187 0 196 (dk_at dksX1_wayOf_4 0 rfl rfl)
theorem dX1_wayOf_115 : decode cX1_wayOf 115 = .ok (.dup, 1) := dk_89 (dk_at dksX1_wayOf_4 3 rfl rfl)
theorem dX1_wayOf_116 : decode cX1_wayOf 116 = .ok (.invokespecial 198, 3) := dk_183 0 198 (dk_at dksX1_wayOf_4 4 rfl rfl)
theorem dX1_wayOf_119 : decode cX1_wayOf 119 = .ok (.areturn, 1) := dk_176 (dk_at dksX1_wayOf_4 7 rfl rfl)
theorem dX1_wayOf_120 : decode cX1_wayOf 120 = .ok (.new 199, 3) := dk_187 0 199 (dk_at dksX1_wayOf_4 8 rfl rfl)
theorem dX1_wayOf_123 : decode cX1_wayOf 123 = .ok (.dup, 1) := dk_89 (dk_at dksX1_wayOf_4 11 rfl rfl)
theorem dX1_wayOf_124 : decode cX1_wayOf 124 = .ok (.invokespecial 201, 3) := dk_183 0 201 (dk_at dksX1_wayOf_4 12 rfl rfl)
theorem dX1_wayOf_127 : decode cX1_wayOf 127 = .ok (.areturn, 1) := dk_176 (dk_at dksX1_wayOf_4 15 rfl rfl)
theorem dX1_wayOf_128 : decode cX1_wayOf 128 = .ok (.new 202, 3) := dk_187 0 202 (dk_at dksX1_wayOf_4 16 rfl rfl)
theorem dX1_wayOf_131 : decode cX1_wayOf 131 = .ok (.dup, 1) := dk_89 (dk_at dksX1_wayOf_4 19 rfl rfl)
theorem dX1_wayOf_132 : decode cX1_wayOf 132 = .ok (.invokespecial 204, 3) := dk_183 0 204 (dk_at dksX1_wayOf_4 20 rfl rfl)
theorem dX1_wayOf_135 : decode cX1_wayOf 135 = .ok (.areturn, 1) := dk_176 (dk_at dksX1_wayOf_4 23 rfl rfl)
theorem dX1_wayOf_136 : decode cX1_wayOf 136 = .ok (.new 205, 3) := dk_187 0 205 (dk_at dksX1_wayOf_5 0 rfl rfl)
theorem dX1_wayOf_139 : decode cX1_wayOf 139 = .ok (.dup, 1) := dk_89 (dk_at dksX1_wayOf_5 3 rfl rfl)
theorem dX1_wayOf_140 : decode cX1_wayOf 140 = .ok (.iload_n 1, 1) := dk_27 (dk_at dksX1_wayOf_5 4 rfl rfl)
theorem dX1_wayOf_141 : decode cX1_wayOf 141 = .ok (.invokespecial 207, 3) := dk_183 0 207 (dk_at dksX1_wayOf_5 5 rfl rfl)
theorem dX1_wayOf_144 : decode cX1_wayOf 144 = .ok (.areturn, 1) := dk_176 (dk_at dksX1_wayOf_5 8 rfl rfl)
theorem dX1_wayOf_145 : decode cX1_wayOf 145 = .ok (.new 208, 3) := dk_187 0 208 (dk_at dksX1_wayOf_5 9 rfl rfl)
theorem dX1_wayOf_148 : decode cX1_wayOf 148 = .ok (.dup, 1) := dk_89 (dk_at dksX1_wayOf_5 12 rfl rfl)
theorem dX1_wayOf_149 : decode cX1_wayOf 149 = .ok (.invokespecial 210, 3) := dk_183 0 210 (dk_at dksX1_wayOf_5 13 rfl rfl)
theorem dX1_wayOf_152 : decode cX1_wayOf 152 = .ok (.areturn, 1) := dk_176 (dk_at dksX1_wayOf_5 16 rfl rfl)
theorem dX1_wayOf_153 : decode cX1_wayOf 153 = .ok (.new 211, 3) := dk_187 0 211 (dk_at dksX1_wayOf_5 17 rfl rfl)
theorem dX1_wayOf_156 : decode cX1_wayOf 156 = .ok (.dup, 1) := dk_89 (dk_at dksX1_wayOf_5 20 rfl rfl)
theorem dX1_wayOf_157 : decode cX1_wayOf 157 = .ok (.invokespecial 213, 3) := dk_183 0 213 (dk_at dksX1_wayOf_5 21 rfl rfl)
theorem dX1_wayOf_160 : decode cX1_wayOf 160 = .ok (.areturn, 1) := dk_176 (dk_at dksX1_wayOf_6 0 rfl rfl)
theorem dX1_wayOf_161 : decode cX1_wayOf 161 = .ok (.new 214, 3) := dk_187 0 214 (dk_at dksX1_wayOf_6 1 rfl rfl)
theorem dX1_wayOf_164 : decode cX1_wayOf 164 = .ok (.dup, 1) := dk_89 (dk_at dksX1_wayOf_6 4 rfl rfl)
theorem dX1_wayOf_165 : decode cX1_wayOf 165 = .ok (.invokespecial 216, 3) := dk_183 0 216 (dk_at dksX1_wayOf_6 5 rfl rfl)
theorem dX1_wayOf_168 : decode cX1_wayOf 168 = .ok (.areturn, 1) := dk_176 (dk_at dksX1_wayOf_6 8 rfl rfl)
abbrev cX1_compare : ByteArray := prog_1_method_34_code
def yX1_compare : MethodName := ⟨RX1, "compare", "(IJ)I"⟩
def dkwX1_compare_2 : List UInt8 := [182, 0, 151, 42, 180, 0, 18, 182, 1, 48, 172]
abbrev dktX1_compare_2 : List UInt8 := dkwX1_compare_2 ++ []
def dkwX1_compare_1 : List UInt8 := [58, 4, 42, 180, 0, 18, 25, 4, 2, 2, 184, 1, 72, 42, 180, 0, 18, 32, 184, 1, 76, 4]
abbrev dktX1_compare_1 : List UInt8 := dkwX1_compare_1 ++ dktX1_compare_2
def dkwX1_compare_0 : List UInt8 := [32, 20, 1, 68, 127, 20, 1, 70, 184, 1, 39, 148, 158, 0, 6, 16, 154, 172, 42, 180, 0, 11, 27, 50]
abbrev dktX1_compare_0 : List UInt8 := dkwX1_compare_0 ++ dktX1_compare_1
theorem dksX1_compare_0 : cX1_compare.data.toList.drop 0 = dktX1_compare_0 := by decide +kernel
theorem dksX1_compare_1 : cX1_compare.data.toList.drop 24 = dktX1_compare_1 := dk_seg dksX1_compare_0 24 rfl rfl
theorem dksX1_compare_2 : cX1_compare.data.toList.drop 46 = dktX1_compare_2 := dk_seg dksX1_compare_1 22 rfl rfl
theorem dX1_compare_0 : decode cX1_compare 0 = .ok (.lload_n 2, 1) := dk_32 (dk_at dksX1_compare_0 0 rfl rfl)
theorem dX1_compare_1 : decode cX1_compare 1 = .ok (.ldc2_w 324, 3) := dk_20 1 68 (dk_at dksX1_compare_0 1 rfl rfl)
theorem dX1_compare_4 : decode cX1_compare 4 = .ok (.land, 1) := dk_127 (dk_at dksX1_compare_0 4 rfl rfl)
theorem dX1_compare_5 : decode cX1_compare 5 = .ok (.ldc2_w 326, 3) := dk_20 1 70 (dk_at dksX1_compare_0 5 rfl rfl)
theorem dX1_compare_8 : decode cX1_compare 8 = .ok (.invokestatic 295, 3) := dk_184 1 39 (dk_at dksX1_compare_0 8 rfl rfl)
theorem dX1_compare_11 : decode cX1_compare 11 = .ok (.lcmp, 1) := dk_148 (dk_at dksX1_compare_0 11 rfl rfl)
theorem dX1_compare_12 : decode cX1_compare 12 = .ok (.ifCond .le 6, 3) := dk_158 0 6 (dk_at dksX1_compare_0 12 rfl rfl)
theorem dX1_compare_15 : decode cX1_compare 15 = .ok (.bipush (-102), 2) := dk_16 154 (dk_at dksX1_compare_0 15 rfl rfl)
theorem dX1_compare_17 : decode cX1_compare 17 = .ok (.ireturn, 1) := dk_172 (dk_at dksX1_compare_0 17 rfl rfl)
theorem dX1_compare_18 : decode cX1_compare 18 = .ok (.aload_n 0, 1) := dk_42 (dk_at dksX1_compare_0 18 rfl rfl)
theorem dX1_compare_19 : decode cX1_compare 19 = .ok (.getfield 11, 3) := dk_180 0 11 (dk_at dksX1_compare_0 19 rfl rfl)
theorem dX1_compare_22 : decode cX1_compare 22 = .ok (.iload_n 1, 1) := dk_27 (dk_at dksX1_compare_0 22 rfl rfl)
theorem dX1_compare_23 : decode cX1_compare 23 = .ok (.aaload, 1) := dk_50 (dk_at dksX1_compare_0 23 rfl rfl)
theorem dX1_compare_24 : decode cX1_compare 24 = .ok (.astore 4, 2) := dk_58 4 (dk_at dksX1_compare_1 0 rfl rfl)
theorem dX1_compare_26 : decode cX1_compare 26 = .ok (.aload_n 0, 1) := dk_42 (dk_at dksX1_compare_1 2 rfl rfl)
theorem dX1_compare_27 : decode cX1_compare 27 = .ok (.getfield 18, 3) := dk_180 0 18 (dk_at dksX1_compare_1 3 rfl rfl)
theorem dX1_compare_30 : decode cX1_compare 30 = .ok (.aload 4, 2) := dk_25 4 (dk_at dksX1_compare_1 6 rfl rfl)
theorem dX1_compare_32 : decode cX1_compare 32 = .ok (.iconst (-1), 1) := dk_2 (dk_at dksX1_compare_1 8 rfl rfl)
theorem dX1_compare_33 : decode cX1_compare 33 = .ok (.iconst (-1), 1) := dk_2 (dk_at dksX1_compare_1 9 rfl rfl)
theorem dX1_compare_34 : decode cX1_compare 34 = .ok (.invokestatic 328, 3) := dk_184 1 72 (dk_at dksX1_compare_1 10 rfl rfl)
theorem dX1_compare_37 : decode cX1_compare 37 = .ok (.aload_n 0, 1) := dk_42 (dk_at dksX1_compare_1 13 rfl rfl)
theorem dX1_compare_38 : decode cX1_compare 38 = .ok (.getfield 18, 3) := dk_180 0 18 (dk_at dksX1_compare_1 14 rfl rfl)
theorem dX1_compare_41 : decode cX1_compare 41 = .ok (.lload_n 2, 1) := dk_32 (dk_at dksX1_compare_1 17 rfl rfl)
theorem dX1_compare_42 : decode cX1_compare 42 = .ok (.invokestatic 332, 3) := dk_184 1 76 (dk_at dksX1_compare_1 18 rfl rfl)
theorem dX1_compare_45 : decode cX1_compare 45 = .ok (.iconst 1, 1) := dk_4 (dk_at dksX1_compare_1 21 rfl rfl)
theorem dX1_compare_46 : decode cX1_compare 46 = .ok (.invokevirtual 151, 3) := dk_182 0 151 (dk_at dksX1_compare_2 0 rfl rfl)
theorem dX1_compare_49 : decode cX1_compare 49 = .ok (.aload_n 0, 1) := dk_42 (dk_at dksX1_compare_2 3 rfl rfl)
theorem dX1_compare_50 : decode cX1_compare 50 = .ok (.getfield 18, 3) := dk_180 0 18 (dk_at dksX1_compare_2 4 rfl rfl)
theorem dX1_compare_53 : decode cX1_compare 53 = .ok (.invokevirtual 304, 3) := dk_182 1 48 (dk_at dksX1_compare_2 7 rfl rfl)
theorem dX1_compare_56 : decode cX1_compare 56 = .ok (.ireturn, 1) := dk_172 (dk_at dksX1_compare_2 10 rfl rfl)
abbrev cX1_sum : ByteArray := prog_1_method_33_code
def yX1_sum : MethodName := ⟨RX1, "sum", "(LRoundingAuditor$Exact;LRoundingAuditor$Ledger;II)V"⟩
def dkwX1_sum_2 : List UInt8 := [21, 4, 182, 0, 67, 3, 182, 0, 151, 132, 4, 1, 167, 255, 203, 177]
abbrev dktX1_sum_2 : List UInt8 := dkwX1_sum_2 ++ []
def dkwX1_sum_1 : List UInt8 := [182, 0, 75, 28, 160, 0, 29, 29, 2, 159, 0, 13, 43, 21, 4, 182, 0, 79, 29, 160, 0, 14, 42, 43]
abbrev dktX1_sum_1 : List UInt8 := dkwX1_sum_1 ++ dktX1_sum_2
def dkwX1_sum_0 : List UInt8 := [42, 182, 0, 148, 3, 54, 4, 21, 4, 43, 182, 0, 101, 162, 0, 50, 28, 2, 159, 0, 13, 43, 21, 4]
abbrev dktX1_sum_0 : List UInt8 := dkwX1_sum_0 ++ dktX1_sum_1
theorem dksX1_sum_0 : cX1_sum.data.toList.drop 0 = dktX1_sum_0 := by decide +kernel
theorem dksX1_sum_1 : cX1_sum.data.toList.drop 24 = dktX1_sum_1 := dk_seg dksX1_sum_0 24 rfl rfl
theorem dksX1_sum_2 : cX1_sum.data.toList.drop 48 = dktX1_sum_2 := dk_seg dksX1_sum_1 24 rfl rfl
theorem dX1_sum_0 : decode cX1_sum 0 = .ok (.aload_n 0, 1) := dk_42 (dk_at dksX1_sum_0 0 rfl rfl)
theorem dX1_sum_1 : decode cX1_sum 1 = .ok (.invokevirtual 148, 3) := dk_182 0 148 (dk_at dksX1_sum_0 1 rfl rfl)
theorem dX1_sum_4 : decode cX1_sum 4 = .ok (.iconst 0, 1) := dk_3 (dk_at dksX1_sum_0 4 rfl rfl)
theorem dX1_sum_5 : decode cX1_sum 5 = .ok (.istore 4, 2) := dk_54 4 (dk_at dksX1_sum_0 5 rfl rfl)
theorem dX1_sum_7 : decode cX1_sum 7 = .ok (.iload 4, 2) := dk_21 4 (dk_at dksX1_sum_0 7 rfl rfl)
theorem dX1_sum_9 : decode cX1_sum 9 = .ok (.aload_n 1, 1) := dk_43 (dk_at dksX1_sum_0 9 rfl rfl)
theorem dX1_sum_10 : decode cX1_sum 10 = .ok (.invokevirtual 101, 3) := dk_182 0 101 (dk_at dksX1_sum_0 10 rfl rfl)
theorem dX1_sum_13 : decode cX1_sum 13 = .ok (.if_icmp .ge 50, 3) := dk_162 0 50 (dk_at dksX1_sum_0 13 rfl rfl)
theorem dX1_sum_16 : decode cX1_sum 16 = .ok (.iload_n 2, 1) := dk_28 (dk_at dksX1_sum_0 16 rfl rfl)
theorem dX1_sum_17 : decode cX1_sum 17 = .ok (.iconst (-1), 1) := dk_2 (dk_at dksX1_sum_0 17 rfl rfl)
theorem dX1_sum_18 : decode cX1_sum 18 = .ok (.if_icmp .eq 13, 3) := dk_159 0 13 (dk_at dksX1_sum_0 18 rfl rfl)
theorem dX1_sum_21 : decode cX1_sum 21 = .ok (.aload_n 1, 1) := dk_43 (dk_at dksX1_sum_0 21 rfl rfl)
theorem dX1_sum_22 : decode cX1_sum 22 = .ok (.iload 4, 2) := dk_21 4 (dk_at dksX1_sum_0 22 rfl rfl)
theorem dX1_sum_24 : decode cX1_sum 24 = .ok (.invokevirtual 75, 3) := dk_182 0 75 (dk_at dksX1_sum_1 0 rfl rfl)
theorem dX1_sum_27 : decode cX1_sum 27 = .ok (.iload_n 2, 1) := dk_28 (dk_at dksX1_sum_1 3 rfl rfl)
theorem dX1_sum_28 : decode cX1_sum 28 = .ok (.if_icmp .ne 29, 3) := dk_160 0 29 (dk_at dksX1_sum_1 4 rfl rfl)
theorem dX1_sum_31 : decode cX1_sum 31 = .ok (.iload_n 3, 1) := dk_29 (dk_at dksX1_sum_1 7 rfl rfl)
theorem dX1_sum_32 : decode cX1_sum 32 = .ok (.iconst (-1), 1) := dk_2 (dk_at dksX1_sum_1 8 rfl rfl)
theorem dX1_sum_33 : decode cX1_sum 33 = .ok (.if_icmp .eq 13, 3) := dk_159 0 13 (dk_at dksX1_sum_1 9 rfl rfl)
theorem dX1_sum_36 : decode cX1_sum 36 = .ok (.aload_n 1, 1) := dk_43 (dk_at dksX1_sum_1 12 rfl rfl)
theorem dX1_sum_37 : decode cX1_sum 37 = .ok (.iload 4, 2) := dk_21 4 (dk_at dksX1_sum_1 13 rfl rfl)
theorem dX1_sum_39 : decode cX1_sum 39 = .ok (.invokevirtual 79, 3) := dk_182 0 79 (dk_at dksX1_sum_1 15 rfl rfl)
theorem dX1_sum_42 : decode cX1_sum 42 = .ok (.iload_n 3, 1) := dk_29 (dk_at dksX1_sum_1 18 rfl rfl)
theorem dX1_sum_43 : decode cX1_sum 43 = .ok (.if_icmp .ne 14, 3) := dk_160 0 14 (dk_at dksX1_sum_1 19 rfl rfl)
theorem dX1_sum_46 : decode cX1_sum 46 = .ok (.aload_n 0, 1) := dk_42 (dk_at dksX1_sum_1 22 rfl rfl)
theorem dX1_sum_47 : decode cX1_sum 47 = .ok (.aload_n 1, 1) := dk_43 (dk_at dksX1_sum_1 23 rfl rfl)
theorem dX1_sum_48 : decode cX1_sum 48 = .ok (.iload 4, 2) := dk_21 4 (dk_at dksX1_sum_2 0 rfl rfl)
theorem dX1_sum_50 : decode cX1_sum 50 = .ok (.invokevirtual 67, 3) := dk_182 0 67 (dk_at dksX1_sum_2 2 rfl rfl)
theorem dX1_sum_53 : decode cX1_sum 53 = .ok (.iconst 0, 1) := dk_3 (dk_at dksX1_sum_2 5 rfl rfl)
theorem dX1_sum_54 : decode cX1_sum 54 = .ok (.invokevirtual 151, 3) := dk_182 0 151 (dk_at dksX1_sum_2 6 rfl rfl)
theorem dX1_sum_57 : decode cX1_sum 57 = .ok (.iinc 4 1, 3) := dk_132 4 1 (dk_at dksX1_sum_2 9 rfl rfl)
theorem dX1_sum_60 : decode cX1_sum 60 = .ok (.goto (-53), 3) := dk_167 255 203 (dk_at dksX1_sum_2 12 rfl rfl)
theorem dX1_sum_63 : decode cX1_sum 63 = .ok (.return_, 1) := dk_177 (dk_at dksX1_sum_2 15 rfl rfl)
abbrev cX1_rounded : ByteArray := prog_1_method_36_code
def yX1_rounded : MethodName := ⟨RX1, "rounded", "(I)J"⟩
def dkwX1_rounded_0 : List UInt8 := [42, 180, 0, 11, 27, 50, 77, 44, 42, 44, 182, 1, 84, 182, 0, 71, 173]
abbrev dktX1_rounded_0 : List UInt8 := dkwX1_rounded_0 ++ []
theorem dksX1_rounded_0 : cX1_rounded.data.toList.drop 0 = dktX1_rounded_0 := by decide +kernel
theorem dX1_rounded_0 : decode cX1_rounded 0 = .ok (.aload_n 0, 1) := dk_42 (dk_at dksX1_rounded_0 0 rfl rfl)
theorem dX1_rounded_1 : decode cX1_rounded 1 = .ok (.getfield 11, 3) := dk_180 0 11 (dk_at dksX1_rounded_0 1 rfl rfl)
theorem dX1_rounded_4 : decode cX1_rounded 4 = .ok (.iload_n 1, 1) := dk_27 (dk_at dksX1_rounded_0 4 rfl rfl)
theorem dX1_rounded_5 : decode cX1_rounded 5 = .ok (.aaload, 1) := dk_50 (dk_at dksX1_rounded_0 5 rfl rfl)
theorem dX1_rounded_6 : decode cX1_rounded 6 = .ok (.astore_n 2, 1) := dk_77 (dk_at dksX1_rounded_0 6 rfl rfl)
theorem dX1_rounded_7 : decode cX1_rounded 7 = .ok (.aload_n 2, 1) := dk_44 (dk_at dksX1_rounded_0 7 rfl rfl)
theorem dX1_rounded_8 : decode cX1_rounded 8 = .ok (.aload_n 0, 1) := dk_42 (dk_at dksX1_rounded_0 8 rfl rfl)
theorem dX1_rounded_9 : decode cX1_rounded 9 = .ok (.aload_n 2, 1) := dk_44 (dk_at dksX1_rounded_0 9 rfl rfl)
theorem dX1_rounded_10 : decode cX1_rounded 10 = .ok (.invokevirtual 340, 3) := dk_182 1 84 (dk_at dksX1_rounded_0 10 rfl rfl)
theorem dX1_rounded_13 : decode cX1_rounded 13 = .ok (.invokevirtual 71, 3) := dk_182 0 71 (dk_at dksX1_rounded_0 13 rfl rfl)
theorem dX1_rounded_16 : decode cX1_rounded 16 = .ok (.lreturn, 1) := dk_173 (dk_at dksX1_rounded_0 16 rfl rfl)
abbrev cX1_roundedOf : ByteArray := prog_1_method_35_code
def yX1_roundedOf : MethodName := ⟨RX1, "roundedOf", "(LRoundingAuditor$Ledger;)D"⟩
def dkwX1_roundedOf_0 : List UInt8 := [42, 180, 0, 18, 43, 2, 2, 184, 1, 72, 43, 42, 180, 0, 18, 182, 1, 80, 175]
abbrev dktX1_roundedOf_0 : List UInt8 := dkwX1_roundedOf_0 ++ []
theorem dksX1_roundedOf_0 : cX1_roundedOf.data.toList.drop 0 = dktX1_roundedOf_0 := by decide +kernel
theorem dX1_roundedOf_0 : decode cX1_roundedOf 0 = .ok (.aload_n 0, 1) := dk_42 (dk_at dksX1_roundedOf_0 0 rfl rfl)
theorem dX1_roundedOf_1 : decode cX1_roundedOf 1 = .ok (.getfield 18, 3) := dk_180 0 18 (dk_at dksX1_roundedOf_0 1 rfl rfl)
theorem dX1_roundedOf_4 : decode cX1_roundedOf 4 = .ok (.aload_n 1, 1) := dk_43 (dk_at dksX1_roundedOf_0 4 rfl rfl)
theorem dX1_roundedOf_5 : decode cX1_roundedOf 5 = .ok (.iconst (-1), 1) := dk_2 (dk_at dksX1_roundedOf_0 5 rfl rfl)
theorem dX1_roundedOf_6 : decode cX1_roundedOf 6 = .ok (.iconst (-1), 1) := dk_2 (dk_at dksX1_roundedOf_0 6 rfl rfl)
theorem dX1_roundedOf_7 : decode cX1_roundedOf 7 = .ok (.invokestatic 328, 3) := dk_184 1 72 (dk_at dksX1_roundedOf_0 7 rfl rfl)
theorem dX1_roundedOf_10 : decode cX1_roundedOf 10 = .ok (.aload_n 1, 1) := dk_43 (dk_at dksX1_roundedOf_0 10 rfl rfl)
theorem dX1_roundedOf_11 : decode cX1_roundedOf 11 = .ok (.aload_n 0, 1) := dk_42 (dk_at dksX1_roundedOf_0 11 rfl rfl)
theorem dX1_roundedOf_12 : decode cX1_roundedOf 12 = .ok (.getfield 18, 3) := dk_180 0 18 (dk_at dksX1_roundedOf_0 12 rfl rfl)
theorem dX1_roundedOf_15 : decode cX1_roundedOf 15 = .ok (.invokevirtual 336, 3) := dk_182 1 80 (dk_at dksX1_roundedOf_0 15 rfl rfl)
theorem dX1_roundedOf_18 : decode cX1_roundedOf 18 = .ok (.dreturn, 1) := dk_175 (dk_at dksX1_roundedOf_0 18 rfl rfl)
abbrev cX1_word : ByteArray := prog_1_method_37_code
def yX1_word : MethodName := ⟨RX1, "word", "(II)I"⟩
def dkwX1_word_1 : List UInt8 := [180, 0, 18, 45, 2, 2, 184, 1, 72, 42, 180, 0, 18, 28, 182, 1, 90, 172]
abbrev dktX1_word_1 : List UInt8 := dkwX1_word_1 ++ []
def dkwX1_word_0 : List UInt8 := [28, 133, 9, 20, 1, 88, 184, 0, 57, 154, 0, 6, 16, 154, 172, 42, 180, 0, 11, 27, 50, 78, 42]
abbrev dktX1_word_0 : List UInt8 := dkwX1_word_0 ++ dktX1_word_1
theorem dksX1_word_0 : cX1_word.data.toList.drop 0 = dktX1_word_0 := by decide +kernel
theorem dksX1_word_1 : cX1_word.data.toList.drop 23 = dktX1_word_1 := dk_seg dksX1_word_0 23 rfl rfl
theorem dX1_word_0 : decode cX1_word 0 = .ok (.iload_n 2, 1) := dk_28 (dk_at dksX1_word_0 0 rfl rfl)
theorem dX1_word_1 : decode cX1_word 1 = .ok (.i2l, 1) := dk_133 (dk_at dksX1_word_0 1 rfl rfl)
theorem dX1_word_2 : decode cX1_word 2 = .ok (.lconst 0, 1) := dk_9 (dk_at dksX1_word_0 2 rfl rfl)
theorem dX1_word_3 : decode cX1_word 3 = .ok (.ldc2_w 344, 3) := dk_20 1 88 (dk_at dksX1_word_0 3 rfl rfl)
theorem dX1_word_6 : decode cX1_word 6 = .ok (.invokestatic 57, 3) := dk_184 0 57 (dk_at dksX1_word_0 6 rfl rfl)
theorem dX1_word_9 : decode cX1_word 9 = .ok (.ifCond .ne 6, 3) := dk_154 0 6 (dk_at dksX1_word_0 9 rfl rfl)
theorem dX1_word_12 : decode cX1_word 12 = .ok (.bipush (-102), 2) := dk_16 154 (dk_at dksX1_word_0 12 rfl rfl)
theorem dX1_word_14 : decode cX1_word 14 = .ok (.ireturn, 1) := dk_172 (dk_at dksX1_word_0 14 rfl rfl)
theorem dX1_word_15 : decode cX1_word 15 = .ok (.aload_n 0, 1) := dk_42 (dk_at dksX1_word_0 15 rfl rfl)
theorem dX1_word_16 : decode cX1_word 16 = .ok (.getfield 11, 3) := dk_180 0 11 (dk_at dksX1_word_0 16 rfl rfl)
theorem dX1_word_19 : decode cX1_word 19 = .ok (.iload_n 1, 1) := dk_27 (dk_at dksX1_word_0 19 rfl rfl)
theorem dX1_word_20 : decode cX1_word 20 = .ok (.aaload, 1) := dk_50 (dk_at dksX1_word_0 20 rfl rfl)
theorem dX1_word_21 : decode cX1_word 21 = .ok (.astore_n 3, 1) := dk_78 (dk_at dksX1_word_0 21 rfl rfl)
theorem dX1_word_22 : decode cX1_word 22 = .ok (.aload_n 0, 1) := dk_42 (dk_at dksX1_word_0 22 rfl rfl)
theorem dX1_word_23 : decode cX1_word 23 = .ok (.getfield 18, 3) := dk_180 0 18 (dk_at dksX1_word_1 0 rfl rfl)
theorem dX1_word_26 : decode cX1_word 26 = .ok (.aload_n 3, 1) := dk_45 (dk_at dksX1_word_1 3 rfl rfl)
theorem dX1_word_27 : decode cX1_word 27 = .ok (.iconst (-1), 1) := dk_2 (dk_at dksX1_word_1 4 rfl rfl)
theorem dX1_word_28 : decode cX1_word 28 = .ok (.iconst (-1), 1) := dk_2 (dk_at dksX1_word_1 5 rfl rfl)
theorem dX1_word_29 : decode cX1_word 29 = .ok (.invokestatic 328, 3) := dk_184 1 72 (dk_at dksX1_word_1 6 rfl rfl)
theorem dX1_word_32 : decode cX1_word 32 = .ok (.aload_n 0, 1) := dk_42 (dk_at dksX1_word_1 9 rfl rfl)
theorem dX1_word_33 : decode cX1_word 33 = .ok (.getfield 18, 3) := dk_180 0 18 (dk_at dksX1_word_1 10 rfl rfl)
theorem dX1_word_36 : decode cX1_word 36 = .ok (.iload_n 2, 1) := dk_28 (dk_at dksX1_word_1 13 rfl rfl)
theorem dX1_word_37 : decode cX1_word 37 = .ok (.invokevirtual 346, 3) := dk_182 1 90 (dk_at dksX1_word_1 14 rfl rfl)
theorem dX1_word_40 : decode cX1_word 40 = .ok (.ireturn, 1) := dk_172 (dk_at dksX1_word_1 17 rfl rfl)
abbrev cX1_extreme : ByteArray := prog_1_method_38_code
def yX1_extreme : MethodName := ⟨RX1, "extreme", "(IZ)J"⟩
def dkwX1_extreme_2 : List UInt8 := [167, 0, 8, 25, 4, 180, 1, 107, 182, 0, 71, 173]
abbrev dktX1_extreme_2 : List UInt8 := dkwX1_extreme_2 ++ []
def dkwX1_extreme_1 : List UInt8 := [45, 14, 183, 1, 97, 58, 4, 25, 4, 3, 14, 182, 1, 100, 45, 28, 153, 0, 11, 25, 4, 180, 1, 104]
abbrev dktX1_extreme_1 : List UInt8 := dkwX1_extreme_1 ++ dktX1_extreme_2
def dkwX1_extreme_0 : List UInt8 := [42, 180, 0, 11, 27, 50, 78, 45, 182, 0, 101, 16, 7, 164, 0, 7, 20, 1, 93, 173, 187, 1, 95, 89]
abbrev dktX1_extreme_0 : List UInt8 := dkwX1_extreme_0 ++ dktX1_extreme_1
theorem dksX1_extreme_0 : cX1_extreme.data.toList.drop 0 = dktX1_extreme_0 := by decide +kernel
theorem dksX1_extreme_1 : cX1_extreme.data.toList.drop 24 = dktX1_extreme_1 := dk_seg dksX1_extreme_0 24 rfl rfl
theorem dksX1_extreme_2 : cX1_extreme.data.toList.drop 48 = dktX1_extreme_2 := dk_seg dksX1_extreme_1 24 rfl rfl
theorem dX1_extreme_0 : decode cX1_extreme 0 = .ok (.aload_n 0, 1) := dk_42 (dk_at dksX1_extreme_0 0 rfl rfl)
theorem dX1_extreme_1 : decode cX1_extreme 1 = .ok (.getfield 11, 3) := dk_180 0 11 (dk_at dksX1_extreme_0 1 rfl rfl)
theorem dX1_extreme_4 : decode cX1_extreme 4 = .ok (.iload_n 1, 1) := dk_27 (dk_at dksX1_extreme_0 4 rfl rfl)
theorem dX1_extreme_5 : decode cX1_extreme 5 = .ok (.aaload, 1) := dk_50 (dk_at dksX1_extreme_0 5 rfl rfl)
theorem dX1_extreme_6 : decode cX1_extreme 6 = .ok (.astore_n 3, 1) := dk_78 (dk_at dksX1_extreme_0 6 rfl rfl)
theorem dX1_extreme_7 : decode cX1_extreme 7 = .ok (.aload_n 3, 1) := dk_45 (dk_at dksX1_extreme_0 7 rfl rfl)
theorem dX1_extreme_8 : decode cX1_extreme 8 = .ok (.invokevirtual 101, 3) := dk_182 0 101 (dk_at dksX1_extreme_0 8 rfl rfl)
theorem dX1_extreme_11 : decode cX1_extreme 11 = .ok (.bipush 7, 2) := dk_16 7 (dk_at dksX1_extreme_0 11 rfl rfl)
theorem dX1_extreme_13 : decode cX1_extreme 13 = .ok (.if_icmp .le 7, 3) := dk_164 0 7 (dk_at dksX1_extreme_0 13 rfl rfl)
theorem dX1_extreme_16 : decode cX1_extreme 16 = .ok (.ldc2_w 349, 3) := dk_20 1 93 (dk_at dksX1_extreme_0 16 rfl rfl)
theorem dX1_extreme_19 : decode cX1_extreme 19 = .ok (.lreturn, 1) := dk_173 (dk_at dksX1_extreme_0 19 rfl rfl)
theorem dX1_extreme_20 : decode cX1_extreme 20 = .ok (.new 351, 3) := dk_187 1 95 (dk_at dksX1_extreme_0 20 rfl rfl)
theorem dX1_extreme_23 : decode cX1_extreme 23 = .ok (.dup, 1) := dk_89 (dk_at dksX1_extreme_0 23 rfl rfl)
theorem dX1_extreme_24 : decode cX1_extreme 24 = .ok (.aload_n 3, 1) := dk_45 (dk_at dksX1_extreme_1 0 rfl rfl)
theorem dX1_extreme_25 : decode cX1_extreme 25 = .ok (.dconst 0, 1) := dk_14 (dk_at dksX1_extreme_1 1 rfl rfl)
theorem dX1_extreme_26 : decode cX1_extreme 26 = .ok (.invokespecial 353, 3) := dk_183 1 97 (dk_at dksX1_extreme_1 2 rfl rfl)
theorem dX1_extreme_29 : decode cX1_extreme 29 = .ok (.astore 4, 2) := dk_58 4 (dk_at dksX1_extreme_1 5 rfl rfl)
theorem dX1_extreme_31 : decode cX1_extreme 31 = .ok (.aload 4, 2) := dk_25 4 (dk_at dksX1_extreme_1 7 rfl rfl)
theorem dX1_extreme_33 : decode cX1_extreme 33 = .ok (.iconst 0, 1) := dk_3 (dk_at dksX1_extreme_1 9 rfl rfl)
theorem dX1_extreme_34 : decode cX1_extreme 34 = .ok (.dconst 0, 1) := dk_14 (dk_at dksX1_extreme_1 10 rfl rfl)
theorem dX1_extreme_35 : decode cX1_extreme 35 = .ok (.invokevirtual 356, 3) := dk_182 1 100 (dk_at dksX1_extreme_1 11 rfl rfl)
theorem dX1_extreme_38 : decode cX1_extreme 38 = .ok (.aload_n 3, 1) := dk_45 (dk_at dksX1_extreme_1 14 rfl rfl)
theorem dX1_extreme_39 : decode cX1_extreme 39 = .ok (.iload_n 2, 1) := dk_28 (dk_at dksX1_extreme_1 15 rfl rfl)
theorem dX1_extreme_40 : decode cX1_extreme 40 = .ok (.ifCond .eq 11, 3) := dk_153 0 11 (dk_at dksX1_extreme_1 16 rfl rfl)
theorem dX1_extreme_43 : decode cX1_extreme 43 = .ok (.aload 4, 2) := dk_25 4 (dk_at dksX1_extreme_1 19 rfl rfl)
theorem dX1_extreme_45 : decode cX1_extreme 45 = .ok (.getfield 360, 3) := dk_180 1 104 (dk_at dksX1_extreme_1 21 rfl rfl)
theorem dX1_extreme_48 : decode cX1_extreme 48 = .ok (.goto 8, 3) := dk_167 0 8 (dk_at dksX1_extreme_2 0 rfl rfl)
theorem dX1_extreme_51 : decode cX1_extreme 51 = .ok (.aload 4, 2) := dk_25 4 (dk_at dksX1_extreme_2 3 rfl rfl)
theorem dX1_extreme_53 : decode cX1_extreme 53 = .ok (.getfield 363, 3) := dk_180 1 107 (dk_at dksX1_extreme_2 5 rfl rfl)
theorem dX1_extreme_56 : decode cX1_extreme 56 = .ok (.invokevirtual 71, 3) := dk_182 0 71 (dk_at dksX1_extreme_2 8 rfl rfl)
theorem dX1_extreme_59 : decode cX1_extreme 59 = .ok (.lreturn, 1) := dk_173 (dk_at dksX1_extreme_2 11 rfl rfl)
abbrev cX1_reach : ByteArray := prog_1_method_39_code
def yX1_reach : MethodName := ⟨RX1, "reach", "(I)I"⟩
def dkwX1_reach_2 : List UInt8 := [167, 0, 4, 3, 172]
abbrev dktX1_reach_2 : List UInt8 := dkwX1_reach_2 ++ []
def dkwX1_reach_1 : List UInt8 := [42, 44, 182, 1, 84, 183, 1, 97, 78, 45, 3, 14, 182, 1, 100, 45, 180, 1, 109, 153, 0, 7, 4]
abbrev dktX1_reach_1 : List UInt8 := dkwX1_reach_1 ++ dktX1_reach_2
def dkwX1_reach_0 : List UInt8 := [42, 180, 0, 11, 27, 50, 77, 44, 182, 0, 101, 16, 7, 164, 0, 6, 16, 152, 172, 187, 1, 95, 89, 44]
abbrev dktX1_reach_0 : List UInt8 := dkwX1_reach_0 ++ dktX1_reach_1
theorem dksX1_reach_0 : cX1_reach.data.toList.drop 0 = dktX1_reach_0 := by decide +kernel
theorem dksX1_reach_1 : cX1_reach.data.toList.drop 24 = dktX1_reach_1 := dk_seg dksX1_reach_0 24 rfl rfl
theorem dksX1_reach_2 : cX1_reach.data.toList.drop 47 = dktX1_reach_2 := dk_seg dksX1_reach_1 23 rfl rfl
theorem dX1_reach_0 : decode cX1_reach 0 = .ok (.aload_n 0, 1) := dk_42 (dk_at dksX1_reach_0 0 rfl rfl)
theorem dX1_reach_1 : decode cX1_reach 1 = .ok (.getfield 11, 3) := dk_180 0 11 (dk_at dksX1_reach_0 1 rfl rfl)
theorem dX1_reach_4 : decode cX1_reach 4 = .ok (.iload_n 1, 1) := dk_27 (dk_at dksX1_reach_0 4 rfl rfl)
theorem dX1_reach_5 : decode cX1_reach 5 = .ok (.aaload, 1) := dk_50 (dk_at dksX1_reach_0 5 rfl rfl)
theorem dX1_reach_6 : decode cX1_reach 6 = .ok (.astore_n 2, 1) := dk_77 (dk_at dksX1_reach_0 6 rfl rfl)
theorem dX1_reach_7 : decode cX1_reach 7 = .ok (.aload_n 2, 1) := dk_44 (dk_at dksX1_reach_0 7 rfl rfl)
theorem dX1_reach_8 : decode cX1_reach 8 = .ok (.invokevirtual 101, 3) := dk_182 0 101 (dk_at dksX1_reach_0 8 rfl rfl)
theorem dX1_reach_11 : decode cX1_reach 11 = .ok (.bipush 7, 2) := dk_16 7 (dk_at dksX1_reach_0 11 rfl rfl)
theorem dX1_reach_13 : decode cX1_reach 13 = .ok (.if_icmp .le 6, 3) := dk_164 0 6 (dk_at dksX1_reach_0 13 rfl rfl)
theorem dX1_reach_16 : decode cX1_reach 16 = .ok (.bipush (-104), 2) := dk_16 152 (dk_at dksX1_reach_0 16 rfl rfl)
theorem dX1_reach_18 : decode cX1_reach 18 = .ok (.ireturn, 1) := dk_172 (dk_at dksX1_reach_0 18 rfl rfl)
theorem dX1_reach_19 : decode cX1_reach 19 = .ok (.new 351, 3) := dk_187 1 95 (dk_at dksX1_reach_0 19 rfl rfl)
theorem dX1_reach_22 : decode cX1_reach 22 = .ok (.dup, 1) := dk_89 (dk_at dksX1_reach_0 22 rfl rfl)
theorem dX1_reach_23 : decode cX1_reach 23 = .ok (.aload_n 2, 1) := dk_44 (dk_at dksX1_reach_0 23 rfl rfl)
theorem dX1_reach_24 : decode cX1_reach 24 = .ok (.aload_n 0, 1) := dk_42 (dk_at dksX1_reach_1 0 rfl rfl)
theorem dX1_reach_25 : decode cX1_reach 25 = .ok (.aload_n 2, 1) := dk_44 (dk_at dksX1_reach_1 1 rfl rfl)
theorem dX1_reach_26 : decode cX1_reach 26 = .ok (.invokevirtual 340, 3) := dk_182 1 84 (dk_at dksX1_reach_1 2 rfl rfl)
theorem dX1_reach_29 : decode cX1_reach 29 = .ok (.invokespecial 353, 3) := dk_183 1 97 (dk_at dksX1_reach_1 5 rfl rfl)
theorem dX1_reach_32 : decode cX1_reach 32 = .ok (.astore_n 3, 1) := dk_78 (dk_at dksX1_reach_1 8 rfl rfl)
theorem dX1_reach_33 : decode cX1_reach 33 = .ok (.aload_n 3, 1) := dk_45 (dk_at dksX1_reach_1 9 rfl rfl)
theorem dX1_reach_34 : decode cX1_reach 34 = .ok (.iconst 0, 1) := dk_3 (dk_at dksX1_reach_1 10 rfl rfl)
theorem dX1_reach_35 : decode cX1_reach 35 = .ok (.dconst 0, 1) := dk_14 (dk_at dksX1_reach_1 11 rfl rfl)
theorem dX1_reach_36 : decode cX1_reach 36 = .ok (.invokevirtual 356, 3) := dk_182 1 100 (dk_at dksX1_reach_1 12 rfl rfl)
theorem dX1_reach_39 : decode cX1_reach 39 = .ok (.aload_n 3, 1) := dk_45 (dk_at dksX1_reach_1 15 rfl rfl)
theorem dX1_reach_40 : decode cX1_reach 40 = .ok (.getfield 365, 3) := dk_180 1 109 (dk_at dksX1_reach_1 16 rfl rfl)
theorem dX1_reach_43 : decode cX1_reach 43 = .ok (.ifCond .eq 7, 3) := dk_153 0 7 (dk_at dksX1_reach_1 19 rfl rfl)
theorem dX1_reach_46 : decode cX1_reach 46 = .ok (.iconst 1, 1) := dk_4 (dk_at dksX1_reach_1 22 rfl rfl)
theorem dX1_reach_47 : decode cX1_reach 47 = .ok (.goto 4, 3) := dk_167 0 4 (dk_at dksX1_reach_2 0 rfl rfl)
theorem dX1_reach_50 : decode cX1_reach 50 = .ok (.iconst 0, 1) := dk_3 (dk_at dksX1_reach_2 3 rfl rfl)
theorem dX1_reach_51 : decode cX1_reach 51 = .ok (.ireturn, 1) := dk_172 (dk_at dksX1_reach_2 4 rfl rfl)
abbrev cX1_cure : ByteArray := prog_1_method_43_code
def yX1_cure : MethodName := ⟨RX1, "cure", "(I)I"⟩
def dkwX1_cure_4 : List UInt8 := [21, 6, 181, 1, 124, 21, 6, 2, 160, 0, 7, 2, 167, 0, 8, 21, 6, 184, 1, 115, 172]
abbrev dktX1_cure_4 : List UInt8 := dkwX1_cure_4 ++ []
def dkwX1_cure_3 : List UInt8 := [154, 0, 7, 21, 7, 54, 6, 132, 7, 1, 167, 255, 213, 42, 21, 6, 2, 160, 0, 7, 3, 167, 0, 5]
abbrev dktX1_cure_3 : List UInt8 := dkwX1_cure_3 ++ dktX1_cure_4
def dkwX1_cure_2 : List UInt8 := [159, 0, 13, 21, 7, 21, 6, 184, 1, 118, 153, 0, 19, 44, 21, 7, 184, 1, 121, 24, 4, 151]
abbrev dktX1_cure_2 : List UInt8 := dkwX1_cure_2 ++ dktX1_cure_3
def dkwX1_cure_1 : List UInt8 := [182, 1, 84, 57, 4, 2, 54, 6, 3, 54, 7, 21, 7, 4, 29, 120, 162, 0, 41, 21, 6, 2]
abbrev dktX1_cure_1 : List UInt8 := dkwX1_cure_1 ++ dktX1_cure_2
def dkwX1_cure_0 : List UInt8 := [42, 180, 0, 11, 27, 50, 77, 44, 182, 0, 101, 62, 29, 16, 10, 164, 0, 6, 16, 152, 172, 42, 44]
abbrev dktX1_cure_0 : List UInt8 := dkwX1_cure_0 ++ dktX1_cure_1
theorem dksX1_cure_0 : cX1_cure.data.toList.drop 0 = dktX1_cure_0 := by decide +kernel
theorem dksX1_cure_1 : cX1_cure.data.toList.drop 23 = dktX1_cure_1 := dk_seg dksX1_cure_0 23 rfl rfl
theorem dksX1_cure_2 : cX1_cure.data.toList.drop 45 = dktX1_cure_2 := dk_seg dksX1_cure_1 22 rfl rfl
theorem dksX1_cure_3 : cX1_cure.data.toList.drop 67 = dktX1_cure_3 := dk_seg dksX1_cure_2 22 rfl rfl
theorem dksX1_cure_4 : cX1_cure.data.toList.drop 91 = dktX1_cure_4 := dk_seg dksX1_cure_3 24 rfl rfl
theorem dX1_cure_0 : decode cX1_cure 0 = .ok (.aload_n 0, 1) := dk_42 (dk_at dksX1_cure_0 0 rfl rfl)
theorem dX1_cure_1 : decode cX1_cure 1 = .ok (.getfield 11, 3) := dk_180 0 11 (dk_at dksX1_cure_0 1 rfl rfl)
theorem dX1_cure_4 : decode cX1_cure 4 = .ok (.iload_n 1, 1) := dk_27 (dk_at dksX1_cure_0 4 rfl rfl)
theorem dX1_cure_5 : decode cX1_cure 5 = .ok (.aaload, 1) := dk_50 (dk_at dksX1_cure_0 5 rfl rfl)
theorem dX1_cure_6 : decode cX1_cure 6 = .ok (.astore_n 2, 1) := dk_77 (dk_at dksX1_cure_0 6 rfl rfl)
theorem dX1_cure_7 : decode cX1_cure 7 = .ok (.aload_n 2, 1) := dk_44 (dk_at dksX1_cure_0 7 rfl rfl)
theorem dX1_cure_8 : decode cX1_cure 8 = .ok (.invokevirtual 101, 3) := dk_182 0 101 (dk_at dksX1_cure_0 8 rfl rfl)
theorem dX1_cure_11 : decode cX1_cure 11 = .ok (.istore_n 3, 1) := dk_62 (dk_at dksX1_cure_0 11 rfl rfl)
theorem dX1_cure_12 : decode cX1_cure 12 = .ok (.iload_n 3, 1) := dk_29 (dk_at dksX1_cure_0 12 rfl rfl)
theorem dX1_cure_13 : decode cX1_cure 13 = .ok (.bipush 10, 2) := dk_16 10 (dk_at dksX1_cure_0 13 rfl rfl)
theorem dX1_cure_15 : decode cX1_cure 15 = .ok (.if_icmp .le 6, 3) := dk_164 0 6 (dk_at dksX1_cure_0 15 rfl rfl)
theorem dX1_cure_18 : decode cX1_cure 18 = .ok (.bipush (-104), 2) := dk_16 152 (dk_at dksX1_cure_0 18 rfl rfl)
theorem dX1_cure_20 : decode cX1_cure 20 = .ok (.ireturn, 1) := dk_172 (dk_at dksX1_cure_0 20 rfl rfl)
theorem dX1_cure_21 : decode cX1_cure 21 = .ok (.aload_n 0, 1) := dk_42 (dk_at dksX1_cure_0 21 rfl rfl)
theorem dX1_cure_22 : decode cX1_cure 22 = .ok (.aload_n 2, 1) := dk_44 (dk_at dksX1_cure_0 22 rfl rfl)
theorem dX1_cure_23 : decode cX1_cure 23 = .ok (.invokevirtual 340, 3) := dk_182 1 84 (dk_at dksX1_cure_1 0 rfl rfl)
theorem dX1_cure_26 : decode cX1_cure 26 = .ok (.dstore 4, 2) := dk_57 4 (dk_at dksX1_cure_1 3 rfl rfl)
theorem dX1_cure_28 : decode cX1_cure 28 = .ok (.iconst (-1), 1) := dk_2 (dk_at dksX1_cure_1 5 rfl rfl)
theorem dX1_cure_29 : decode cX1_cure 29 = .ok (.istore 6, 2) := dk_54 6 (dk_at dksX1_cure_1 6 rfl rfl)
theorem dX1_cure_31 : decode cX1_cure 31 = .ok (.iconst 0, 1) := dk_3 (dk_at dksX1_cure_1 8 rfl rfl)
theorem dX1_cure_32 : decode cX1_cure 32 = .ok (.istore 7, 2) := dk_54 7 (dk_at dksX1_cure_1 9 rfl rfl)
theorem dX1_cure_34 : decode cX1_cure 34 = .ok (.iload 7, 2) := dk_21 7 (dk_at dksX1_cure_1 11 rfl rfl)
theorem dX1_cure_36 : decode cX1_cure 36 = .ok (.iconst 1, 1) := dk_4 (dk_at dksX1_cure_1 13 rfl rfl)
theorem dX1_cure_37 : decode cX1_cure 37 = .ok (.iload_n 3, 1) := dk_29 (dk_at dksX1_cure_1 14 rfl rfl)
theorem dX1_cure_38 : decode cX1_cure 38 = .ok (.ishl, 1) := dk_120 (dk_at dksX1_cure_1 15 rfl rfl)
theorem dX1_cure_39 : decode cX1_cure 39 = .ok (.if_icmp .ge 41, 3) := dk_162 0 41 (dk_at dksX1_cure_1 16 rfl rfl)
theorem dX1_cure_42 : decode cX1_cure 42 = .ok (.iload 6, 2) := dk_21 6 (dk_at dksX1_cure_1 19 rfl rfl)
theorem dX1_cure_44 : decode cX1_cure 44 = .ok (.iconst (-1), 1) := dk_2 (dk_at dksX1_cure_1 21 rfl rfl)
theorem dX1_cure_45 : decode cX1_cure 45 = .ok (.if_icmp .eq 13, 3) := dk_159 0 13 (dk_at dksX1_cure_2 0 rfl rfl)
theorem dX1_cure_48 : decode cX1_cure 48 = .ok (.iload 7, 2) := dk_21 7 (dk_at dksX1_cure_2 3 rfl rfl)
theorem dX1_cure_50 : decode cX1_cure 50 = .ok (.iload 6, 2) := dk_21 6 (dk_at dksX1_cure_2 5 rfl rfl)
theorem dX1_cure_52 : decode cX1_cure 52 = .ok (.invokestatic 374, 3) := dk_184 1 118 (dk_at dksX1_cure_2 7 rfl rfl)
theorem dX1_cure_55 : decode cX1_cure 55 = .ok (.ifCond .eq 19, 3) := dk_153 0 19 (dk_at dksX1_cure_2 10 rfl rfl)
theorem dX1_cure_58 : decode cX1_cure 58 = .ok (.aload_n 2, 1) := dk_44 (dk_at dksX1_cure_2 13 rfl rfl)
theorem dX1_cure_59 : decode cX1_cure 59 = .ok (.iload 7, 2) := dk_21 7 (dk_at dksX1_cure_2 14 rfl rfl)
theorem dX1_cure_61 : decode cX1_cure 61 = .ok (.invokestatic 377, 3) := dk_184 1 121 (dk_at dksX1_cure_2 16 rfl rfl)
theorem dX1_cure_64 : decode cX1_cure 64 = .ok (.dload 4, 2) := dk_24 4 (dk_at dksX1_cure_2 19 rfl rfl)
theorem dX1_cure_66 : decode cX1_cure 66 = .ok (.dcmp .l, 1) := dk_151 (dk_at dksX1_cure_2 21 rfl rfl)
theorem dX1_cure_67 : decode cX1_cure 67 = .ok (.ifCond .ne 7, 3) := dk_154 0 7 (dk_at dksX1_cure_3 0 rfl rfl)
theorem dX1_cure_70 : decode cX1_cure 70 = .ok (.iload 7, 2) := dk_21 7 (dk_at dksX1_cure_3 3 rfl rfl)
theorem dX1_cure_72 : decode cX1_cure 72 = .ok (.istore 6, 2) := dk_54 6 (dk_at dksX1_cure_3 5 rfl rfl)
theorem dX1_cure_74 : decode cX1_cure 74 = .ok (.iinc 7 1, 3) := dk_132 7 1 (dk_at dksX1_cure_3 7 rfl rfl)
theorem dX1_cure_77 : decode cX1_cure 77 = .ok (.goto (-43), 3) := dk_167 255 213 (dk_at dksX1_cure_3 10 rfl rfl)
theorem dX1_cure_80 : decode cX1_cure 80 = .ok (.aload_n 0, 1) := dk_42 (dk_at dksX1_cure_3 13 rfl rfl)
theorem dX1_cure_81 : decode cX1_cure 81 = .ok (.iload 6, 2) := dk_21 6 (dk_at dksX1_cure_3 14 rfl rfl)
theorem dX1_cure_83 : decode cX1_cure 83 = .ok (.iconst (-1), 1) := dk_2 (dk_at dksX1_cure_3 16 rfl rfl)
theorem dX1_cure_84 : decode cX1_cure 84 = .ok (.if_icmp .ne 7, 3) := dk_160 0 7 (dk_at dksX1_cure_3 17 rfl rfl)
theorem dX1_cure_87 : decode cX1_cure 87 = .ok (.iconst 0, 1) := dk_3 (dk_at dksX1_cure_3 20 rfl rfl)
theorem dX1_cure_88 : decode cX1_cure 88 = .ok (.goto 5, 3) := dk_167 0 5 (dk_at dksX1_cure_3 21 rfl rfl)
theorem dX1_cure_91 : decode cX1_cure 91 = .ok (.iload 6, 2) := dk_21 6 (dk_at dksX1_cure_4 0 rfl rfl)
theorem dX1_cure_93 : decode cX1_cure 93 = .ok (.putfield 380, 3) := dk_181 1 124 (dk_at dksX1_cure_4 2 rfl rfl)
theorem dX1_cure_96 : decode cX1_cure 96 = .ok (.iload 6, 2) := dk_21 6 (dk_at dksX1_cure_4 5 rfl rfl)
theorem dX1_cure_98 : decode cX1_cure 98 = .ok (.iconst (-1), 1) := dk_2 (dk_at dksX1_cure_4 7 rfl rfl)
theorem dX1_cure_99 : decode cX1_cure 99 = .ok (.if_icmp .ne 7, 3) := dk_160 0 7 (dk_at dksX1_cure_4 8 rfl rfl)
theorem dX1_cure_102 : decode cX1_cure 102 = .ok (.iconst (-1), 1) := dk_2 (dk_at dksX1_cure_4 11 rfl rfl)
theorem dX1_cure_103 : decode cX1_cure 103 = .ok (.goto 8, 3) := dk_167 0 8 (dk_at dksX1_cure_4 12 rfl rfl)
theorem dX1_cure_106 : decode cX1_cure 106 = .ok (.iload 6, 2) := dk_21 6 (dk_at dksX1_cure_4 15 rfl rfl)
theorem dX1_cure_108 : decode cX1_cure 108 = .ok (.invokestatic 371, 3) := dk_184 1 115 (dk_at dksX1_cure_4 17 rfl rfl)
theorem dX1_cure_111 : decode cX1_cure 111 = .ok (.ireturn, 1) := dk_172 (dk_at dksX1_cure_4 20 rfl rfl)
abbrev cX1_isAhead : ByteArray := prog_1_method_42_code
def yX1_isAhead : MethodName := ⟨RX1, "isAhead", "(II)Z"⟩
def dkwX1_isAhead_2 : List UInt8 := [167, 0, 4, 3, 172]
abbrev dktX1_isAhead_2 : List UInt8 := dkwX1_isAhead_2 ++ []
def dkwX1_isAhead_1 : List UInt8 := [162, 0, 7, 4, 167, 0, 23, 3, 167, 0, 19, 26, 21, 4, 126, 21, 4, 116, 126, 153, 0, 7, 4]
abbrev dktX1_isAhead_1 : List UInt8 := dkwX1_isAhead_1 ++ dktX1_isAhead_2
def dkwX1_isAhead_0 : List UInt8 := [26, 184, 1, 115, 61, 27, 184, 1, 115, 62, 26, 27, 130, 54, 4, 28, 29, 159, 0, 16, 28, 29]
abbrev dktX1_isAhead_0 : List UInt8 := dkwX1_isAhead_0 ++ dktX1_isAhead_1
theorem dksX1_isAhead_0 : cX1_isAhead.data.toList.drop 0 = dktX1_isAhead_0 := by decide +kernel
theorem dksX1_isAhead_1 : cX1_isAhead.data.toList.drop 22 = dktX1_isAhead_1 := dk_seg dksX1_isAhead_0 22 rfl rfl
theorem dksX1_isAhead_2 : cX1_isAhead.data.toList.drop 45 = dktX1_isAhead_2 := dk_seg dksX1_isAhead_1 23 rfl rfl
theorem dX1_isAhead_0 : decode cX1_isAhead 0 = .ok (.iload_n 0, 1) := dk_26 (dk_at dksX1_isAhead_0 0 rfl rfl)
theorem dX1_isAhead_1 : decode cX1_isAhead 1 = .ok (.invokestatic 371, 3) := dk_184 1 115 (dk_at dksX1_isAhead_0 1 rfl rfl)
theorem dX1_isAhead_4 : decode cX1_isAhead 4 = .ok (.istore_n 2, 1) := dk_61 (dk_at dksX1_isAhead_0 4 rfl rfl)
theorem dX1_isAhead_5 : decode cX1_isAhead 5 = .ok (.iload_n 1, 1) := dk_27 (dk_at dksX1_isAhead_0 5 rfl rfl)
theorem dX1_isAhead_6 : decode cX1_isAhead 6 = .ok (.invokestatic 371, 3) := dk_184 1 115 (dk_at dksX1_isAhead_0 6 rfl rfl)
theorem dX1_isAhead_9 : decode cX1_isAhead 9 = .ok (.istore_n 3, 1) := dk_62 (dk_at dksX1_isAhead_0 9 rfl rfl)
theorem dX1_isAhead_10 : decode cX1_isAhead 10 = .ok (.iload_n 0, 1) := dk_26 (dk_at dksX1_isAhead_0 10 rfl rfl)
theorem dX1_isAhead_11 : decode cX1_isAhead 11 = .ok (.iload_n 1, 1) := dk_27 (dk_at dksX1_isAhead_0 11 rfl rfl)
theorem dX1_isAhead_12 : decode cX1_isAhead 12 = .ok (.ixor, 1) := dk_130 (dk_at dksX1_isAhead_0 12 rfl rfl)
theorem dX1_isAhead_13 : decode cX1_isAhead 13 = .ok (.istore 4, 2) := dk_54 4 (dk_at dksX1_isAhead_0 13 rfl rfl)
theorem dX1_isAhead_15 : decode cX1_isAhead 15 = .ok (.iload_n 2, 1) := dk_28 (dk_at dksX1_isAhead_0 15 rfl rfl)
theorem dX1_isAhead_16 : decode cX1_isAhead 16 = .ok (.iload_n 3, 1) := dk_29 (dk_at dksX1_isAhead_0 16 rfl rfl)
theorem dX1_isAhead_17 : decode cX1_isAhead 17 = .ok (.if_icmp .eq 16, 3) := dk_159 0 16 (dk_at dksX1_isAhead_0 17 rfl rfl)
theorem dX1_isAhead_20 : decode cX1_isAhead 20 = .ok (.iload_n 2, 1) := dk_28 (dk_at dksX1_isAhead_0 20 rfl rfl)
theorem dX1_isAhead_21 : decode cX1_isAhead 21 = .ok (.iload_n 3, 1) := dk_29 (dk_at dksX1_isAhead_0 21 rfl rfl)
theorem dX1_isAhead_22 : decode cX1_isAhead 22 = .ok (.if_icmp .ge 7, 3) := dk_162 0 7 (dk_at dksX1_isAhead_1 0 rfl rfl)
theorem dX1_isAhead_25 : decode cX1_isAhead 25 = .ok (.iconst 1, 1) := dk_4 (dk_at dksX1_isAhead_1 3 rfl rfl)
theorem dX1_isAhead_26 : decode cX1_isAhead 26 = .ok (.goto 23, 3) := dk_167 0 23 (dk_at dksX1_isAhead_1 4 rfl rfl)
theorem dX1_isAhead_29 : decode cX1_isAhead 29 = .ok (.iconst 0, 1) := dk_3 (dk_at dksX1_isAhead_1 7 rfl rfl)
theorem dX1_isAhead_30 : decode cX1_isAhead 30 = .ok (.goto 19, 3) := dk_167 0 19 (dk_at dksX1_isAhead_1 8 rfl rfl)
theorem dX1_isAhead_33 : decode cX1_isAhead 33 = .ok (.iload_n 0, 1) := dk_26 (dk_at dksX1_isAhead_1 11 rfl rfl)
theorem dX1_isAhead_34 : decode cX1_isAhead 34 = .ok (.iload 4, 2) := dk_21 4 (dk_at dksX1_isAhead_1 12 rfl rfl)
theorem dX1_isAhead_36 : decode cX1_isAhead 36 = .ok (.iand, 1) := dk_126 (dk_at dksX1_isAhead_1 14 rfl rfl)
theorem dX1_isAhead_37 : decode cX1_isAhead 37 = .ok (.iload 4, 2) := dk_21 4 (dk_at dksX1_isAhead_1 15 rfl rfl)
theorem dX1_isAhead_39 : decode cX1_isAhead 39 = .ok (.ineg, 1) := dk_116 (dk_at dksX1_isAhead_1 17 rfl rfl)
theorem dX1_isAhead_40 : decode cX1_isAhead 40 = .ok (.iand, 1) := dk_126 (dk_at dksX1_isAhead_1 18 rfl rfl)
theorem dX1_isAhead_41 : decode cX1_isAhead 41 = .ok (.ifCond .eq 7, 3) := dk_153 0 7 (dk_at dksX1_isAhead_1 19 rfl rfl)
theorem dX1_isAhead_44 : decode cX1_isAhead 44 = .ok (.iconst 1, 1) := dk_4 (dk_at dksX1_isAhead_1 22 rfl rfl)
theorem dX1_isAhead_45 : decode cX1_isAhead 45 = .ok (.goto 4, 3) := dk_167 0 4 (dk_at dksX1_isAhead_2 0 rfl rfl)
theorem dX1_isAhead_48 : decode cX1_isAhead 48 = .ok (.iconst 0, 1) := dk_3 (dk_at dksX1_isAhead_2 3 rfl rfl)
theorem dX1_isAhead_49 : decode cX1_isAhead 49 = .ok (.ireturn, 1) := dk_172 (dk_at dksX1_isAhead_2 4 rfl rfl)
abbrev cX1_many : ByteArray := prog_1_method_41_code
def yX1_many : MethodName := ⟨RX1, "many", "(I)I"⟩
def dkwX1_many_0 : List UInt8 := [3, 60, 26, 61, 28, 153, 0, 15, 132, 1, 1, 28, 28, 4, 100, 126, 61, 167, 255, 243, 27, 172]
abbrev dktX1_many_0 : List UInt8 := dkwX1_many_0 ++ []
theorem dksX1_many_0 : cX1_many.data.toList.drop 0 = dktX1_many_0 := by decide +kernel
theorem dX1_many_0 : decode cX1_many 0 = .ok (.iconst 0, 1) := dk_3 (dk_at dksX1_many_0 0 rfl rfl)
theorem dX1_many_1 : decode cX1_many 1 = .ok (.istore_n 1, 1) := dk_60 (dk_at dksX1_many_0 1 rfl rfl)
theorem dX1_many_2 : decode cX1_many 2 = .ok (.iload_n 0, 1) := dk_26 (dk_at dksX1_many_0 2 rfl rfl)
theorem dX1_many_3 : decode cX1_many 3 = .ok (.istore_n 2, 1) := dk_61 (dk_at dksX1_many_0 3 rfl rfl)
theorem dX1_many_4 : decode cX1_many 4 = .ok (.iload_n 2, 1) := dk_28 (dk_at dksX1_many_0 4 rfl rfl)
theorem dX1_many_5 : decode cX1_many 5 = .ok (.ifCond .eq 15, 3) := dk_153 0 15 (dk_at dksX1_many_0 5 rfl rfl)
theorem dX1_many_8 : decode cX1_many 8 = .ok (.iinc 1 1, 3) := dk_132 1 1 (dk_at dksX1_many_0 8 rfl rfl)
theorem dX1_many_11 : decode cX1_many 11 = .ok (.iload_n 2, 1) := dk_28 (dk_at dksX1_many_0 11 rfl rfl)
theorem dX1_many_12 : decode cX1_many 12 = .ok (.iload_n 2, 1) := dk_28 (dk_at dksX1_many_0 12 rfl rfl)
theorem dX1_many_13 : decode cX1_many 13 = .ok (.iconst 1, 1) := dk_4 (dk_at dksX1_many_0 13 rfl rfl)
theorem dX1_many_14 : decode cX1_many 14 = .ok (.isub, 1) := dk_100 (dk_at dksX1_many_0 14 rfl rfl)
theorem dX1_many_15 : decode cX1_many 15 = .ok (.iand, 1) := dk_126 (dk_at dksX1_many_0 15 rfl rfl)
theorem dX1_many_16 : decode cX1_many 16 = .ok (.istore_n 2, 1) := dk_61 (dk_at dksX1_many_0 16 rfl rfl)
theorem dX1_many_17 : decode cX1_many 17 = .ok (.goto (-13), 3) := dk_167 255 243 (dk_at dksX1_many_0 17 rfl rfl)
theorem dX1_many_20 : decode cX1_many 20 = .ok (.iload_n 1, 1) := dk_27 (dk_at dksX1_many_0 20 rfl rfl)
theorem dX1_many_21 : decode cX1_many 21 = .ok (.ireturn, 1) := dk_172 (dk_at dksX1_many_0 21 rfl rfl)
abbrev cX1_curedTotal : ByteArray := prog_1_method_40_code
def yX1_curedTotal : MethodName := ⟨RX1, "curedTotal", "(LRoundingAuditor$Ledger;I)D"⟩
def dkwX1_curedTotal_3 : List UInt8 := [167, 255, 204, 132, 5, 1, 167, 255, 189, 40, 175]
abbrev dktX1_curedTotal_3 : List UInt8 := dkwX1_curedTotal_3 ++ []
def dkwX1_curedTotal_2 : List UInt8 := [182, 0, 67, 182, 1, 113, 167, 0, 9, 42, 21, 6, 182, 0, 67, 73, 4, 54, 4, 132, 6, 1]
abbrev dktX1_curedTotal_2 : List UInt8 := dkwX1_curedTotal_2 ++ dktX1_curedTotal_3
def dkwX1_curedTotal_1 : List UInt8 := [162, 0, 49, 27, 21, 6, 122, 4, 126, 21, 5, 160, 0, 32, 21, 4, 153, 0, 17, 42, 40, 42, 21, 6]
abbrev dktX1_curedTotal_1 : List UInt8 := dkwX1_curedTotal_1 ++ dktX1_curedTotal_2
def dkwX1_curedTotal_0 : List UInt8 := [14, 73, 3, 54, 4, 3, 54, 5, 21, 5, 5, 162, 0, 67, 3, 54, 6, 21, 6, 42, 182, 0, 101]
abbrev dktX1_curedTotal_0 : List UInt8 := dkwX1_curedTotal_0 ++ dktX1_curedTotal_1
theorem dksX1_curedTotal_0 : cX1_curedTotal.data.toList.drop 0 = dktX1_curedTotal_0 := by decide +kernel
theorem dksX1_curedTotal_1 : cX1_curedTotal.data.toList.drop 23 = dktX1_curedTotal_1 := dk_seg dksX1_curedTotal_0 23 rfl rfl
theorem dksX1_curedTotal_2 : cX1_curedTotal.data.toList.drop 47 = dktX1_curedTotal_2 := dk_seg dksX1_curedTotal_1 24 rfl rfl
theorem dksX1_curedTotal_3 : cX1_curedTotal.data.toList.drop 69 = dktX1_curedTotal_3 := dk_seg dksX1_curedTotal_2 22 rfl rfl
theorem dX1_curedTotal_0 : decode cX1_curedTotal 0 = .ok (.dconst 0, 1) := dk_14 (dk_at dksX1_curedTotal_0 0 rfl rfl)
theorem dX1_curedTotal_1 : decode cX1_curedTotal 1 = .ok (.dstore_n 2, 1) := dk_73 (dk_at dksX1_curedTotal_0 1 rfl rfl)
theorem dX1_curedTotal_2 : decode cX1_curedTotal 2 = .ok (.iconst 0, 1) := dk_3 (dk_at dksX1_curedTotal_0 2 rfl rfl)
theorem dX1_curedTotal_3 : decode cX1_curedTotal 3 = .ok (.istore 4, 2) := dk_54 4 (dk_at dksX1_curedTotal_0 3 rfl rfl)
theorem dX1_curedTotal_5 : decode cX1_curedTotal 5 = .ok (.iconst 0, 1) := dk_3 (dk_at dksX1_curedTotal_0 5 rfl rfl)
theorem dX1_curedTotal_6 : decode cX1_curedTotal 6 = .ok (.istore 5, 2) := dk_54 5 (dk_at dksX1_curedTotal_0 6 rfl rfl)
theorem dX1_curedTotal_8 : decode cX1_curedTotal 8 = .ok (.iload 5, 2) := dk_21 5 (dk_at dksX1_curedTotal_0 8 rfl rfl)
theorem dX1_curedTotal_10 : decode cX1_curedTotal 10 = .ok (.iconst 2, 1) := dk_5 (dk_at dksX1_curedTotal_0 10 rfl rfl)
theorem dX1_curedTotal_11 : decode cX1_curedTotal 11 = .ok (.if_icmp .ge 67, 3) := dk_162 0 67 (dk_at dksX1_curedTotal_0 11 rfl rfl)
theorem dX1_curedTotal_14 : decode cX1_curedTotal 14 = .ok (.iconst 0, 1) := dk_3 (dk_at dksX1_curedTotal_0 14 rfl rfl)
theorem dX1_curedTotal_15 : decode cX1_curedTotal 15 = .ok (.istore 6, 2) := dk_54 6 (dk_at dksX1_curedTotal_0 15 rfl rfl)
theorem dX1_curedTotal_17 : decode cX1_curedTotal 17 = .ok (.iload 6, 2) := dk_21 6 (dk_at dksX1_curedTotal_0 17 rfl rfl)
theorem dX1_curedTotal_19 : decode cX1_curedTotal 19 = .ok (.aload_n 0, 1) := dk_42 (dk_at dksX1_curedTotal_0 19 rfl rfl)
theorem dX1_curedTotal_20 : decode cX1_curedTotal 20 = .ok (.invokevirtual 101, 3) := dk_182 0 101 (dk_at dksX1_curedTotal_0 20 rfl rfl)
theorem dX1_curedTotal_23 : decode cX1_curedTotal 23 = .ok (.if_icmp .ge 49, 3) := dk_162 0 49 (dk_at dksX1_curedTotal_1 0 rfl rfl)
theorem dX1_curedTotal_26 : decode cX1_curedTotal 26 = .ok (.iload_n 1, 1) := dk_27 (dk_at dksX1_curedTotal_1 3 rfl rfl)
theorem dX1_curedTotal_27 : decode cX1_curedTotal 27 = .ok (.iload 6, 2) := dk_21 6 (dk_at dksX1_curedTotal_1 4 rfl rfl)
theorem dX1_curedTotal_29 : decode cX1_curedTotal 29 = .ok (.ishr, 1) := dk_122 (dk_at dksX1_curedTotal_1 6 rfl rfl)
theorem dX1_curedTotal_30 : decode cX1_curedTotal 30 = .ok (.iconst 1, 1) := dk_4 (dk_at dksX1_curedTotal_1 7 rfl rfl)
theorem dX1_curedTotal_31 : decode cX1_curedTotal 31 = .ok (.iand, 1) := dk_126 (dk_at dksX1_curedTotal_1 8 rfl rfl)
theorem dX1_curedTotal_32 : decode cX1_curedTotal 32 = .ok (.iload 5, 2) := dk_21 5 (dk_at dksX1_curedTotal_1 9 rfl rfl)
theorem dX1_curedTotal_34 : decode cX1_curedTotal 34 = .ok (.if_icmp .ne 32, 3) := dk_160 0 32 (dk_at dksX1_curedTotal_1 11 rfl rfl)
theorem dX1_curedTotal_37 : decode cX1_curedTotal 37 = .ok (.iload 4, 2) := dk_21 4 (dk_at dksX1_curedTotal_1 14 rfl rfl)
theorem dX1_curedTotal_39 : decode cX1_curedTotal 39 = .ok (.ifCond .eq 17, 3) := dk_153 0 17 (dk_at dksX1_curedTotal_1 16 rfl rfl)
theorem dX1_curedTotal_42 : decode cX1_curedTotal 42 = .ok (.aload_n 0, 1) := dk_42 (dk_at dksX1_curedTotal_1 19 rfl rfl)
theorem dX1_curedTotal_43 : decode cX1_curedTotal 43 = .ok (.dload_n 2, 1) := dk_40 (dk_at dksX1_curedTotal_1 20 rfl rfl)
theorem dX1_curedTotal_44 : decode cX1_curedTotal 44 = .ok (.aload_n 0, 1) := dk_42 (dk_at dksX1_curedTotal_1 21 rfl rfl)
theorem dX1_curedTotal_45 : decode cX1_curedTotal 45 = .ok (.iload 6, 2) := dk_21 6 (dk_at dksX1_curedTotal_1 22 rfl rfl)
theorem dX1_curedTotal_47 : decode cX1_curedTotal 47 = .ok (.invokevirtual 67, 3) := dk_182 0 67 (dk_at dksX1_curedTotal_2 0 rfl rfl)
theorem dX1_curedTotal_50 : decode cX1_curedTotal 50 = .ok (.invokevirtual 369, 3) := dk_182 1 113 (dk_at dksX1_curedTotal_2 3 rfl rfl)
theorem dX1_curedTotal_53 : decode cX1_curedTotal 53 = .ok (.goto 9, 3) := dk_167 0 9 (dk_at dksX1_curedTotal_2 6 rfl rfl)
theorem dX1_curedTotal_56 : decode cX1_curedTotal 56 = .ok (.aload_n 0, 1) := dk_42 (dk_at dksX1_curedTotal_2 9 rfl rfl)
theorem dX1_curedTotal_57 : decode cX1_curedTotal 57 = .ok (.iload 6, 2) := dk_21 6 (dk_at dksX1_curedTotal_2 10 rfl rfl)
theorem dX1_curedTotal_59 : decode cX1_curedTotal 59 = .ok (.invokevirtual 67, 3) := dk_182 0 67 (dk_at dksX1_curedTotal_2 12 rfl rfl)
theorem dX1_curedTotal_62 : decode cX1_curedTotal 62 = .ok (.dstore_n 2, 1) := dk_73 (dk_at dksX1_curedTotal_2 15 rfl rfl)
theorem dX1_curedTotal_63 : decode cX1_curedTotal 63 = .ok (.iconst 1, 1) := dk_4 (dk_at dksX1_curedTotal_2 16 rfl rfl)
theorem dX1_curedTotal_64 : decode cX1_curedTotal 64 = .ok (.istore 4, 2) := dk_54 4 (dk_at dksX1_curedTotal_2 17 rfl rfl)
theorem dX1_curedTotal_66 : decode cX1_curedTotal 66 = .ok (.iinc 6 1, 3) := dk_132 6 1 (dk_at dksX1_curedTotal_2 19 rfl rfl)
theorem dX1_curedTotal_69 : decode cX1_curedTotal 69 = .ok (.goto (-52), 3) := dk_167 255 204 (dk_at dksX1_curedTotal_3 0 rfl rfl)
theorem dX1_curedTotal_72 : decode cX1_curedTotal 72 = .ok (.iinc 5 1, 3) := dk_132 5 1 (dk_at dksX1_curedTotal_3 3 rfl rfl)
theorem dX1_curedTotal_75 : decode cX1_curedTotal 75 = .ok (.goto (-67), 3) := dk_167 255 189 (dk_at dksX1_curedTotal_3 6 rfl rfl)
theorem dX1_curedTotal_78 : decode cX1_curedTotal 78 = .ok (.dload_n 2, 1) := dk_40 (dk_at dksX1_curedTotal_3 9 rfl rfl)
theorem dX1_curedTotal_79 : decode cX1_curedTotal 79 = .ok (.dreturn, 1) := dk_175 (dk_at dksX1_curedTotal_3 10 rfl rfl)
abbrev cX1_statement : ByteArray := prog_1_method_45_code
def yX1_statement : MethodName := ⟨RX1, "statement", "(IJI)I"⟩
def dkwX1_statement_5 : List UInt8 := [167, 0, 11, 58, 11, 21, 7, 3, 128, 54, 7, 132, 8, 1, 167, 255, 160, 21, 7, 172]
abbrev dktX1_statement_5 : List UInt8 := dkwX1_statement_5 ++ []
def dkwX1_statement_4 : List UInt8 := [24, 9, 21, 4, 182, 0, 173, 32, 148, 154, 0, 10, 4, 21, 8, 120, 167, 0, 4, 3, 128, 54, 7]
abbrev dktX1_statement_4 : List UInt8 := dkwX1_statement_4 ++ dktX1_statement_5
def dkwX1_statement_3 : List UInt8 := [182, 0, 105, 21, 8, 3, 21, 6, 4, 100, 184, 0, 123, 183, 0, 230, 182, 0, 241, 57, 9, 21, 7, 42]
abbrev dktX1_statement_3 : List UInt8 := dkwX1_statement_3 ++ dktX1_statement_4
def dkwX1_statement_2 : List UInt8 := [159, 0, 82, 21, 8, 16, 9, 159, 0, 75, 21, 8, 3, 184, 0, 237, 25, 5, 187, 0, 228, 89, 25, 5]
abbrev dktX1_statement_2 : List UInt8 := dkwX1_statement_2 ++ dktX1_statement_3
def dkwX1_statement_1 : List UInt8 := [25, 5, 182, 0, 101, 54, 6, 3, 54, 7, 3, 54, 8, 21, 8, 16, 13, 162, 0, 95, 21, 8, 16, 6]
abbrev dktX1_statement_1 : List UInt8 := dkwX1_statement_1 ++ dktX1_statement_2
def dkwX1_statement_0 : List UInt8 := [21, 4, 133, 9, 20, 0, 99, 184, 0, 57, 154, 0, 6, 16, 154, 172, 42, 180, 0, 11, 27, 50, 58, 5]
abbrev dktX1_statement_0 : List UInt8 := dkwX1_statement_0 ++ dktX1_statement_1
theorem dksX1_statement_0 : cX1_statement.data.toList.drop 0 = dktX1_statement_0 := by decide +kernel
theorem dksX1_statement_1 : cX1_statement.data.toList.drop 24 = dktX1_statement_1 := dk_seg dksX1_statement_0 24 rfl rfl
theorem dksX1_statement_2 : cX1_statement.data.toList.drop 48 = dktX1_statement_2 := dk_seg dksX1_statement_1 24 rfl rfl
theorem dksX1_statement_3 : cX1_statement.data.toList.drop 72 = dktX1_statement_3 := dk_seg dksX1_statement_2 24 rfl rfl
theorem dksX1_statement_4 : cX1_statement.data.toList.drop 96 = dktX1_statement_4 := dk_seg dksX1_statement_3 24 rfl rfl
theorem dksX1_statement_5 : cX1_statement.data.toList.drop 119 = dktX1_statement_5 := dk_seg dksX1_statement_4 23 rfl rfl
theorem dX1_statement_0 : decode cX1_statement 0 = .ok (.iload 4, 2) := dk_21 4 (dk_at dksX1_statement_0 0 rfl rfl)
theorem dX1_statement_2 : decode cX1_statement 2 = .ok (.i2l, 1) := dk_133 (dk_at dksX1_statement_0 2 rfl rfl)
theorem dX1_statement_3 : decode cX1_statement 3 = .ok (.lconst 0, 1) := dk_9 (dk_at dksX1_statement_0 3 rfl rfl)
theorem dX1_statement_4 : decode cX1_statement 4 = .ok (.ldc2_w 99, 3) := dk_20 0 99 (dk_at dksX1_statement_0 4 rfl rfl)
theorem dX1_statement_7 : decode cX1_statement 7 = .ok (.invokestatic 57, 3) := dk_184 0 57 (dk_at dksX1_statement_0 7 rfl rfl)
theorem dX1_statement_10 : decode cX1_statement 10 = .ok (.ifCond .ne 6, 3) := dk_154 0 6 (dk_at dksX1_statement_0 10 rfl rfl)
theorem dX1_statement_13 : decode cX1_statement 13 = .ok (.bipush (-102), 2) := dk_16 154 (dk_at dksX1_statement_0 13 rfl rfl)
theorem dX1_statement_15 : decode cX1_statement 15 = .ok (.ireturn, 1) := dk_172 (dk_at dksX1_statement_0 15 rfl rfl)
theorem dX1_statement_16 : decode cX1_statement 16 = .ok (.aload_n 0, 1) := dk_42 (dk_at dksX1_statement_0 16 rfl rfl)
theorem dX1_statement_17 : decode cX1_statement 17 = .ok (.getfield 11, 3) := dk_180 0 11 (dk_at dksX1_statement_0 17 rfl rfl)
theorem dX1_statement_20 : decode cX1_statement 20 = .ok (.iload_n 1, 1) := dk_27 (dk_at dksX1_statement_0 20 rfl rfl)
theorem dX1_statement_21 : decode cX1_statement 21 = .ok (.aaload, 1) := dk_50 (dk_at dksX1_statement_0 21 rfl rfl)
theorem dX1_statement_22 : decode cX1_statement 22 = .ok (.astore 5, 2) := dk_58 5 (dk_at dksX1_statement_0 22 rfl rfl)
theorem dX1_statement_24 : decode cX1_statement 24 = .ok (.aload 5, 2) := dk_25 5 (dk_at dksX1_statement_1 0 rfl rfl)
theorem dX1_statement_26 : decode cX1_statement 26 = .ok (.invokevirtual 101, 3) := dk_182 0 101 (dk_at dksX1_statement_1 2 rfl rfl)
theorem dX1_statement_29 : decode cX1_statement 29 = .ok (.istore 6, 2) := dk_54 6 (dk_at dksX1_statement_1 5 rfl rfl)
theorem dX1_statement_31 : decode cX1_statement 31 = .ok (.iconst 0, 1) := dk_3 (dk_at dksX1_statement_1 7 rfl rfl)
theorem dX1_statement_32 : decode cX1_statement 32 = .ok (.istore 7, 2) := dk_54 7 (dk_at dksX1_statement_1 8 rfl rfl)
theorem dX1_statement_34 : decode cX1_statement 34 = .ok (.iconst 0, 1) := dk_3 (dk_at dksX1_statement_1 10 rfl rfl)
theorem dX1_statement_35 : decode cX1_statement 35 = .ok (.istore 8, 2) := dk_54 8 (dk_at dksX1_statement_1 11 rfl rfl)
theorem dX1_statement_37 : decode cX1_statement 37 = .ok (.iload 8, 2) := dk_21 8 (dk_at dksX1_statement_1 13 rfl rfl)
theorem dX1_statement_39 : decode cX1_statement 39 = .ok (.bipush 13, 2) := dk_16 13 (dk_at dksX1_statement_1 15 rfl rfl)
theorem dX1_statement_41 : decode cX1_statement 41 = .ok (.if_icmp .ge 95, 3) := dk_162 0 95 (dk_at dksX1_statement_1 17 rfl rfl)
theorem dX1_statement_44 : decode cX1_statement 44 = .ok (.iload 8, 2) := dk_21 8 (dk_at dksX1_statement_1 20 rfl rfl)
theorem dX1_statement_46 : decode cX1_statement 46 = .ok (.bipush 6, 2) := dk_16 6 (dk_at dksX1_statement_1 22 rfl rfl)
theorem dX1_statement_48 : decode cX1_statement 48 = .ok (.if_icmp .eq 82, 3) := dk_159 0 82 (dk_at dksX1_statement_2 0 rfl rfl)
theorem dX1_statement_51 : decode cX1_statement 51 = .ok (.iload 8, 2) := dk_21 8 (dk_at dksX1_statement_2 3 rfl rfl)
theorem dX1_statement_53 : decode cX1_statement 53 = .ok (.bipush 9, 2) := dk_16 9 (dk_at dksX1_statement_2 5 rfl rfl)
theorem dX1_statement_55 : decode cX1_statement 55 = .ok (.if_icmp .eq 75, 3) := dk_159 0 75 (dk_at dksX1_statement_2 7 rfl rfl)
theorem dX1_statement_58 : decode cX1_statement 58 = .ok (.iload 8, 2) := dk_21 8 (dk_at dksX1_statement_2 10 rfl rfl)
theorem dX1_statement_60 : decode cX1_statement 60 = .ok (.iconst 0, 1) := dk_3 (dk_at dksX1_statement_2 12 rfl rfl)
theorem dX1_statement_61 : decode cX1_statement 61 = .ok (.invokestatic 237, 3) := dk_184 0 237 (dk_at dksX1_statement_2 13 rfl rfl)
theorem dX1_statement_64 : decode cX1_statement 64 = .ok (.aload 5, 2) := dk_25 5 (dk_at dksX1_statement_2 16 rfl rfl)
theorem dX1_statement_66 : decode cX1_statement 66 = .ok (.new 228, 3) := dk_187 0 228 (dk_at dksX1_statement_2 18 rfl rfl)
theorem dX1_statement_69 : decode cX1_statement 69 = .ok (.dup, 1) := dk_89 (dk_at dksX1_statement_2 21 rfl rfl)
theorem dX1_statement_70 : decode cX1_statement 70 = .ok (.aload 5, 2) := dk_25 5 (dk_at dksX1_statement_2 22 rfl rfl)
theorem dX1_statement_72 : decode cX1_statement 72 = .ok (.invokevirtual 105, 3) := dk_182 0 105 (dk_at dksX1_statement_3 0 rfl rfl)
theorem dX1_statement_75 : decode cX1_statement 75 = .ok (.iload 8, 2) := dk_21 8 (dk_at dksX1_statement_3 3 rfl rfl)
theorem dX1_statement_77 : decode cX1_statement 77 = .ok (.iconst 0, 1) := dk_3 (dk_at dksX1_statement_3 5 rfl rfl)
theorem dX1_statement_78 : decode cX1_statement 78 = .ok (.iload 6, 2) := dk_21 6 (dk_at dksX1_statement_3 6 rfl rfl)
theorem dX1_statement_80 : decode cX1_statement 80 = .ok (.iconst 1, 1) := dk_4 (dk_at dksX1_statement_3 8 rfl rfl)
theorem dX1_statement_81 : decode cX1_statement 81 = .ok (.isub, 1) := dk_100 (dk_at dksX1_statement_3 9 rfl rfl)
theorem dX1_statement_82 : decode cX1_statement 82 = .ok (.invokestatic 123, 3) := dk_184 0 123 (dk_at dksX1_statement_3 10 rfl rfl)
theorem dX1_statement_85 : decode cX1_statement 85 = .ok (.invokespecial 230, 3) := dk_183 0 230 (dk_at dksX1_statement_3 13 rfl rfl)
theorem dX1_statement_88 : decode cX1_statement 88 = .ok (.invokevirtual 241, 3) := dk_182 0 241 (dk_at dksX1_statement_3 16 rfl rfl)
theorem dX1_statement_91 : decode cX1_statement 91 = .ok (.dstore 9, 2) := dk_57 9 (dk_at dksX1_statement_3 19 rfl rfl)
theorem dX1_statement_93 : decode cX1_statement 93 = .ok (.iload 7, 2) := dk_21 7 (dk_at dksX1_statement_3 21 rfl rfl)
theorem dX1_statement_95 : decode cX1_statement 95 = .ok (.aload_n 0, 1) := dk_42 (dk_at dksX1_statement_3 23 rfl rfl)
theorem dX1_statement_96 : decode cX1_statement 96 = .ok (.dload 9, 2) := dk_24 9 (dk_at dksX1_statement_4 0 rfl rfl)
theorem dX1_statement_98 : decode cX1_statement 98 = .ok (.iload 4, 2) := dk_21 4 (dk_at dksX1_statement_4 2 rfl rfl)
theorem dX1_statement_100 : decode cX1_statement 100 = .ok (.invokevirtual 173, 3) := dk_182 0 173 (dk_at dksX1_statement_4 4 rfl rfl)
theorem dX1_statement_103 : decode cX1_statement 103 = .ok (.lload_n 2, 1) := dk_32 (dk_at dksX1_statement_4 7 rfl rfl)
theorem dX1_statement_104 : decode cX1_statement 104 = .ok (.lcmp, 1) := dk_148 (dk_at dksX1_statement_4 8 rfl rfl)
theorem dX1_statement_105 : decode cX1_statement 105 = .ok (.ifCond .ne 10, 3) := dk_154 0 10 (dk_at dksX1_statement_4 9 rfl rfl)
theorem dX1_statement_108 : decode cX1_statement 108 = .ok (.iconst 1, 1) := dk_4 (dk_at dksX1_statement_4 12 rfl rfl)
theorem dX1_statement_109 : decode cX1_statement 109 = .ok (.iload 8, 2) := dk_21 8 (dk_at dksX1_statement_4 13 rfl rfl)
theorem dX1_statement_111 : decode cX1_statement 111 = .ok (.ishl, 1) := dk_120 (dk_at dksX1_statement_4 15 rfl rfl)
theorem dX1_statement_112 : decode cX1_statement 112 = .ok (.goto 4, 3) := dk_167 0 4 (dk_at dksX1_statement_4 16 rfl rfl)
theorem dX1_statement_115 : decode cX1_statement 115 = .ok (.iconst 0, 1) := dk_3 (dk_at dksX1_statement_4 19 rfl rfl)
theorem dX1_statement_116 : decode cX1_statement 116 = .ok (.ior, 1) := dk_128 (dk_at dksX1_statement_4 20 rfl rfl)
theorem dX1_statement_117 : decode cX1_statement 117 = .ok (.istore 7, 2) := dk_54 7 (dk_at dksX1_statement_4 21 rfl rfl)
theorem dX1_statement_119 : decode cX1_statement 119 = .ok (.goto 11, 3) := dk_167 0 11 (dk_at dksX1_statement_5 0 rfl rfl)
theorem dX1_statement_122 : decode cX1_statement 122 = .ok (.astore 11, 2) := dk_58 11 (dk_at dksX1_statement_5 3 rfl rfl)
theorem dX1_statement_124 : decode cX1_statement 124 = .ok (.iload 7, 2) := dk_21 7 (dk_at dksX1_statement_5 5 rfl rfl)
theorem dX1_statement_126 : decode cX1_statement 126 = .ok (.iconst 0, 1) := dk_3 (dk_at dksX1_statement_5 7 rfl rfl)
theorem dX1_statement_127 : decode cX1_statement 127 = .ok (.ior, 1) := dk_128 (dk_at dksX1_statement_5 8 rfl rfl)
theorem dX1_statement_128 : decode cX1_statement 128 = .ok (.istore 7, 2) := dk_54 7 (dk_at dksX1_statement_5 9 rfl rfl)
theorem dX1_statement_130 : decode cX1_statement 130 = .ok (.iinc 8 1, 3) := dk_132 8 1 (dk_at dksX1_statement_5 11 rfl rfl)
theorem dX1_statement_133 : decode cX1_statement 133 = .ok (.goto (-96), 3) := dk_167 255 160 (dk_at dksX1_statement_5 14 rfl rfl)
theorem dX1_statement_136 : decode cX1_statement 136 = .ok (.iload 7, 2) := dk_21 7 (dk_at dksX1_statement_5 17 rfl rfl)
theorem dX1_statement_138 : decode cX1_statement 138 = .ok (.ireturn, 1) := dk_172 (dk_at dksX1_statement_5 19 rfl rfl)
abbrev cX1_split : ByteArray := prog_1_method_47_code
def yX1_split : MethodName := ⟨RX1, "split", "(II)I"⟩
def dkwX1_split_12 : List UInt8 := [167, 0, 4, 3, 96, 54, 7, 132, 10, 1, 167, 255, 224, 21, 7, 172]
abbrev dktX1_split_12 : List UInt8 := dkwX1_split_12 ++ []
def dkwX1_split_11 : List UInt8 := [54, 10, 21, 10, 21, 9, 162, 0, 31, 25, 8, 21, 10, 46, 54, 11, 21, 7, 21, 11, 158, 0, 7, 4]
abbrev dktX1_split_11 : List UInt8 := dkwX1_split_11 ++ dktX1_split_12
def dkwX1_split_10 : List UInt8 := [182, 0, 148, 132, 5, 255, 167, 255, 185, 3, 54, 7, 42, 180, 0, 35, 58, 8, 25, 8, 190, 54, 9, 3]
abbrev dktX1_split_10 : List UInt8 := dkwX1_split_10 ++ dktX1_split_11
def dkwX1_split_9 : List UInt8 := [54, 7, 132, 8, 1, 167, 255, 221, 42, 180, 0, 35, 21, 7, 92, 46, 4, 96, 79, 25, 6, 21, 7, 50]
abbrev dktX1_split_9 : List UInt8 := dkwX1_split_9 ++ dktX1_split_10
def dkwX1_split_8 : List UInt8 := [25, 6, 21, 8, 50, 25, 6, 21, 7, 50, 182, 1, 54, 158, 0, 8, 21, 8, 167, 0, 5, 21, 7]
abbrev dktX1_split_8 : List UInt8 := dkwX1_split_8 ++ dktX1_split_9
def dkwX1_split_7 : List UInt8 := [132, 7, 1, 167, 255, 195, 21, 5, 158, 0, 72, 3, 54, 7, 4, 54, 8, 21, 8, 16, 10, 162, 0, 34]
abbrev dktX1_split_7 : List UInt8 := dkwX1_split_7 ++ dktX1_split_8
def dkwX1_split_6 : List UInt8 := [25, 6, 21, 7, 187, 0, 15, 89, 183, 0, 17, 83, 25, 6, 21, 7, 50, 42, 180, 0, 22, 182, 1, 58]
abbrev dktX1_split_6 : List UInt8 := dkwX1_split_6 ++ dktX1_split_7
def dkwX1_split_5 : List UInt8 := [21, 7, 42, 45, 21, 7, 28, 182, 1, 131, 79, 21, 5, 42, 180, 0, 35, 21, 7, 46, 100, 54, 5]
abbrev dktX1_split_5 : List UInt8 := dkwX1_split_5 ++ dktX1_split_6
def dkwX1_split_4 : List UInt8 := [54, 5, 16, 10, 189, 0, 15, 58, 6, 3, 54, 7, 21, 7, 16, 10, 162, 0, 60, 42, 180, 0, 35]
abbrev dktX1_split_4 : List UInt8 := dkwX1_split_4 ++ dktX1_split_5
def dkwX1_split_3 : List UInt8 := [180, 0, 18, 45, 2, 2, 184, 1, 72, 42, 180, 0, 18, 182, 1, 48, 154, 0, 6, 16, 152, 172, 28]
abbrev dktX1_split_3 : List UInt8 := dkwX1_split_3 ++ dktX1_split_4
def dkwX1_split_2 : List UInt8 := [184, 1, 72, 42, 180, 0, 18, 182, 1, 48, 156, 0, 6, 16, 152, 172, 132, 5, 1, 167, 255, 222, 42]
abbrev dktX1_split_2 : List UInt8 := dkwX1_split_2 ++ dktX1_split_3
def dkwX1_split_1 : List UInt8 := [182, 0, 101, 54, 4, 3, 54, 5, 21, 5, 16, 10, 162, 0, 33, 42, 180, 0, 18, 45, 21, 5, 2]
abbrev dktX1_split_1 : List UInt8 := dkwX1_split_1 ++ dktX1_split_2
def dkwX1_split_0 : List UInt8 := [28, 133, 9, 20, 1, 129, 184, 0, 57, 154, 0, 6, 16, 154, 172, 42, 180, 0, 11, 27, 50, 78, 45]
abbrev dktX1_split_0 : List UInt8 := dkwX1_split_0 ++ dktX1_split_1
theorem dksX1_split_0 : cX1_split.data.toList.drop 0 = dktX1_split_0 := by decide +kernel
theorem dksX1_split_1 : cX1_split.data.toList.drop 23 = dktX1_split_1 := dk_seg dksX1_split_0 23 rfl rfl
theorem dksX1_split_2 : cX1_split.data.toList.drop 46 = dktX1_split_2 := dk_seg dksX1_split_1 23 rfl rfl
theorem dksX1_split_3 : cX1_split.data.toList.drop 69 = dktX1_split_3 := dk_seg dksX1_split_2 23 rfl rfl
theorem dksX1_split_4 : cX1_split.data.toList.drop 92 = dktX1_split_4 := dk_seg dksX1_split_3 23 rfl rfl
theorem dksX1_split_5 : cX1_split.data.toList.drop 115 = dktX1_split_5 := dk_seg dksX1_split_4 23 rfl rfl
theorem dksX1_split_6 : cX1_split.data.toList.drop 138 = dktX1_split_6 := dk_seg dksX1_split_5 23 rfl rfl
theorem dksX1_split_7 : cX1_split.data.toList.drop 162 = dktX1_split_7 := dk_seg dksX1_split_6 24 rfl rfl
theorem dksX1_split_8 : cX1_split.data.toList.drop 186 = dktX1_split_8 := dk_seg dksX1_split_7 24 rfl rfl
theorem dksX1_split_9 : cX1_split.data.toList.drop 209 = dktX1_split_9 := dk_seg dksX1_split_8 23 rfl rfl
theorem dksX1_split_10 : cX1_split.data.toList.drop 233 = dktX1_split_10 := dk_seg dksX1_split_9 24 rfl rfl
theorem dksX1_split_11 : cX1_split.data.toList.drop 257 = dktX1_split_11 := dk_seg dksX1_split_10 24 rfl rfl
theorem dksX1_split_12 : cX1_split.data.toList.drop 281 = dktX1_split_12 := dk_seg dksX1_split_11 24 rfl rfl
theorem dX1_split_0 : decode cX1_split 0 = .ok (.iload_n 2, 1) := dk_28 (dk_at dksX1_split_0 0 rfl rfl)
theorem dX1_split_1 : decode cX1_split 1 = .ok (.i2l, 1) := dk_133 (dk_at dksX1_split_0 1 rfl rfl)
theorem dX1_split_2 : decode cX1_split 2 = .ok (.lconst 0, 1) := dk_9 (dk_at dksX1_split_0 2 rfl rfl)
theorem dX1_split_3 : decode cX1_split 3 = .ok (.ldc2_w 385, 3) := dk_20 1 129 (dk_at dksX1_split_0 3 rfl rfl)
theorem dX1_split_6 : decode cX1_split 6 = .ok (.invokestatic 57, 3) := dk_184 0 57 (dk_at dksX1_split_0 6 rfl rfl)
theorem dX1_split_9 : decode cX1_split 9 = .ok (.ifCond .ne 6, 3) := dk_154 0 6 (dk_at dksX1_split_0 9 rfl rfl)
theorem dX1_split_12 : decode cX1_split 12 = .ok (.bipush (-102), 2) := dk_16 154 (dk_at dksX1_split_0 12 rfl rfl)
theorem dX1_split_14 : decode cX1_split 14 = .ok (.ireturn, 1) := dk_172 (dk_at dksX1_split_0 14 rfl rfl)
theorem dX1_split_15 : decode cX1_split 15 = .ok (.aload_n 0, 1) := dk_42 (dk_at dksX1_split_0 15 rfl rfl)
theorem dX1_split_16 : decode cX1_split 16 = .ok (.getfield 11, 3) := dk_180 0 11 (dk_at dksX1_split_0 16 rfl rfl)
theorem dX1_split_19 : decode cX1_split 19 = .ok (.iload_n 1, 1) := dk_27 (dk_at dksX1_split_0 19 rfl rfl)
theorem dX1_split_20 : decode cX1_split 20 = .ok (.aaload, 1) := dk_50 (dk_at dksX1_split_0 20 rfl rfl)
theorem dX1_split_21 : decode cX1_split 21 = .ok (.astore_n 3, 1) := dk_78 (dk_at dksX1_split_0 21 rfl rfl)
theorem dX1_split_22 : decode cX1_split 22 = .ok (.aload_n 3, 1) := dk_45 (dk_at dksX1_split_0 22 rfl rfl)
theorem dX1_split_23 : decode cX1_split 23 = .ok (.invokevirtual 101, 3) := dk_182 0 101 (dk_at dksX1_split_1 0 rfl rfl)
theorem dX1_split_26 : decode cX1_split 26 = .ok (.istore 4, 2) := dk_54 4 (dk_at dksX1_split_1 3 rfl rfl)
theorem dX1_split_28 : decode cX1_split 28 = .ok (.iconst 0, 1) := dk_3 (dk_at dksX1_split_1 5 rfl rfl)
theorem dX1_split_29 : decode cX1_split 29 = .ok (.istore 5, 2) := dk_54 5 (dk_at dksX1_split_1 6 rfl rfl)
theorem dX1_split_31 : decode cX1_split 31 = .ok (.iload 5, 2) := dk_21 5 (dk_at dksX1_split_1 8 rfl rfl)
theorem dX1_split_33 : decode cX1_split 33 = .ok (.bipush 10, 2) := dk_16 10 (dk_at dksX1_split_1 10 rfl rfl)
theorem dX1_split_35 : decode cX1_split 35 = .ok (.if_icmp .ge 33, 3) := dk_162 0 33 (dk_at dksX1_split_1 12 rfl rfl)
theorem dX1_split_38 : decode cX1_split 38 = .ok (.aload_n 0, 1) := dk_42 (dk_at dksX1_split_1 15 rfl rfl)
theorem dX1_split_39 : decode cX1_split 39 = .ok (.getfield 18, 3) := dk_180 0 18 (dk_at dksX1_split_1 16 rfl rfl)
theorem dX1_split_42 : decode cX1_split 42 = .ok (.aload_n 3, 1) := dk_45 (dk_at dksX1_split_1 19 rfl rfl)
theorem dX1_split_43 : decode cX1_split 43 = .ok (.iload 5, 2) := dk_21 5 (dk_at dksX1_split_1 20 rfl rfl)
theorem dX1_split_45 : decode cX1_split 45 = .ok (.iconst (-1), 1) := dk_2 (dk_at dksX1_split_1 22 rfl rfl)
theorem dX1_split_46 : decode cX1_split 46 = .ok (.invokestatic 328, 3) := dk_184 1 72 (dk_at dksX1_split_2 0 rfl rfl)
theorem dX1_split_49 : decode cX1_split 49 = .ok (.aload_n 0, 1) := dk_42 (dk_at dksX1_split_2 3 rfl rfl)
theorem dX1_split_50 : decode cX1_split 50 = .ok (.getfield 18, 3) := dk_180 0 18 (dk_at dksX1_split_2 4 rfl rfl)
theorem dX1_split_53 : decode cX1_split 53 = .ok (.invokevirtual 304, 3) := dk_182 1 48 (dk_at dksX1_split_2 7 rfl rfl)
theorem dX1_split_56 : decode cX1_split 56 = .ok (.ifCond .ge 6, 3) := dk_156 0 6 (dk_at dksX1_split_2 10 rfl rfl)
theorem dX1_split_59 : decode cX1_split 59 = .ok (.bipush (-104), 2) := dk_16 152 (dk_at dksX1_split_2 13 rfl rfl)
theorem dX1_split_61 : decode cX1_split 61 = .ok (.ireturn, 1) := dk_172 (dk_at dksX1_split_2 15 rfl rfl)
theorem dX1_split_62 : decode cX1_split 62 = .ok (.iinc 5 1, 3) := dk_132 5 1 (dk_at dksX1_split_2 16 rfl rfl)
theorem dX1_split_65 : decode cX1_split 65 = .ok (.goto (-34), 3) := dk_167 255 222 (dk_at dksX1_split_2 19 rfl rfl)
theorem dX1_split_68 : decode cX1_split 68 = .ok (.aload_n 0, 1) := dk_42 (dk_at dksX1_split_2 22 rfl rfl)
theorem dX1_split_69 : decode cX1_split 69 = .ok (.getfield 18, 3) := dk_180 0 18 (dk_at dksX1_split_3 0 rfl rfl)
theorem dX1_split_72 : decode cX1_split 72 = .ok (.aload_n 3, 1) := dk_45 (dk_at dksX1_split_3 3 rfl rfl)
theorem dX1_split_73 : decode cX1_split 73 = .ok (.iconst (-1), 1) := dk_2 (dk_at dksX1_split_3 4 rfl rfl)
theorem dX1_split_74 : decode cX1_split 74 = .ok (.iconst (-1), 1) := dk_2 (dk_at dksX1_split_3 5 rfl rfl)
theorem dX1_split_75 : decode cX1_split 75 = .ok (.invokestatic 328, 3) := dk_184 1 72 (dk_at dksX1_split_3 6 rfl rfl)
theorem dX1_split_78 : decode cX1_split 78 = .ok (.aload_n 0, 1) := dk_42 (dk_at dksX1_split_3 9 rfl rfl)
theorem dX1_split_79 : decode cX1_split 79 = .ok (.getfield 18, 3) := dk_180 0 18 (dk_at dksX1_split_3 10 rfl rfl)
theorem dX1_split_82 : decode cX1_split 82 = .ok (.invokevirtual 304, 3) := dk_182 1 48 (dk_at dksX1_split_3 13 rfl rfl)
theorem dX1_split_85 : decode cX1_split 85 = .ok (.ifCond .ne 6, 3) := dk_154 0 6 (dk_at dksX1_split_3 16 rfl rfl)
theorem dX1_split_88 : decode cX1_split 88 = .ok (.bipush (-104), 2) := dk_16 152 (dk_at dksX1_split_3 19 rfl rfl)
theorem dX1_split_90 : decode cX1_split 90 = .ok (.ireturn, 1) := dk_172 (dk_at dksX1_split_3 21 rfl rfl)
theorem dX1_split_91 : decode cX1_split 91 = .ok (.iload_n 2, 1) := dk_28 (dk_at dksX1_split_3 22 rfl rfl)
theorem dX1_split_92 : decode cX1_split 92 = .ok (.istore 5, 2) := dk_54 5 (dk_at dksX1_split_4 0 rfl rfl)
theorem dX1_split_94 : decode cX1_split 94 = .ok (.bipush 10, 2) := dk_16 10 (dk_at dksX1_split_4 2 rfl rfl)
theorem dX1_split_96 : decode cX1_split 96 = .ok (.anewarray 15, 3) := dk_189 0 15 (dk_at dksX1_split_4 4 rfl rfl)
theorem dX1_split_99 : decode cX1_split 99 = .ok (.astore 6, 2) := dk_58 6 (dk_at dksX1_split_4 7 rfl rfl)
theorem dX1_split_101 : decode cX1_split 101 = .ok (.iconst 0, 1) := dk_3 (dk_at dksX1_split_4 9 rfl rfl)
theorem dX1_split_102 : decode cX1_split 102 = .ok (.istore 7, 2) := dk_54 7 (dk_at dksX1_split_4 10 rfl rfl)
theorem dX1_split_104 : decode cX1_split 104 = .ok (.iload 7, 2) := dk_21 7 (dk_at dksX1_split_4 12 rfl rfl)
theorem dX1_split_106 : decode cX1_split 106 = .ok (.bipush 10, 2) := dk_16 10 (dk_at dksX1_split_4 14 rfl rfl)
theorem dX1_split_108 : decode cX1_split 108 = .ok (.if_icmp .ge 60, 3) := dk_162 0 60 (dk_at dksX1_split_4 16 rfl rfl)
theorem dX1_split_111 : decode cX1_split 111 = .ok (.aload_n 0, 1) := dk_42 (dk_at dksX1_split_4 19 rfl rfl)
theorem dX1_split_112 : decode cX1_split 112 = .ok (.getfield 35, 3) := dk_180 0 35 (dk_at dksX1_split_4 20 rfl rfl)
theorem dX1_split_115 : decode cX1_split 115 = .ok (.iload 7, 2) := dk_21 7 (dk_at dksX1_split_5 0 rfl rfl)
theorem dX1_split_117 : decode cX1_split 117 = .ok (.aload_n 0, 1) := dk_42 (dk_at dksX1_split_5 2 rfl rfl)
theorem dX1_split_118 : decode cX1_split 118 = .ok (.aload_n 3, 1) := dk_45 (dk_at dksX1_split_5 3 rfl rfl)
theorem dX1_split_119 : decode cX1_split 119 = .ok (.iload 7, 2) := dk_21 7 (dk_at dksX1_split_5 4 rfl rfl)
theorem dX1_split_121 : decode cX1_split 121 = .ok (.iload_n 2, 1) := dk_28 (dk_at dksX1_split_5 6 rfl rfl)
theorem dX1_split_122 : decode cX1_split 122 = .ok (.invokevirtual 387, 3) := dk_182 1 131 (dk_at dksX1_split_5 7 rfl rfl)
theorem dX1_split_125 : decode cX1_split 125 = .ok (.iastore, 1) := dk_79 (dk_at dksX1_split_5 10 rfl rfl)
theorem dX1_split_126 : decode cX1_split 126 = .ok (.iload 5, 2) := dk_21 5 (dk_at dksX1_split_5 11 rfl rfl)
theorem dX1_split_128 : decode cX1_split 128 = .ok (.aload_n 0, 1) := dk_42 (dk_at dksX1_split_5 13 rfl rfl)
theorem dX1_split_129 : decode cX1_split 129 = .ok (.getfield 35, 3) := dk_180 0 35 (dk_at dksX1_split_5 14 rfl rfl)
theorem dX1_split_132 : decode cX1_split 132 = .ok (.iload 7, 2) := dk_21 7 (dk_at dksX1_split_5 17 rfl rfl)
theorem dX1_split_134 : decode cX1_split 134 = .ok (.iaload, 1) := dk_46 (dk_at dksX1_split_5 19 rfl rfl)
theorem dX1_split_135 : decode cX1_split 135 = .ok (.isub, 1) := dk_100 (dk_at dksX1_split_5 20 rfl rfl)
theorem dX1_split_136 : decode cX1_split 136 = .ok (.istore 5, 2) := dk_54 5 (dk_at dksX1_split_5 21 rfl rfl)
theorem dX1_split_138 : decode cX1_split 138 = .ok (.aload 6, 2) := dk_25 6 (dk_at dksX1_split_6 0 rfl rfl)
theorem dX1_split_140 : decode cX1_split 140 = .ok (.iload 7, 2) := dk_21 7 (dk_at dksX1_split_6 2 rfl rfl)
theorem dX1_split_142 : decode cX1_split 142 = .ok (.new 15, 3) := dk_187 0 15 (dk_at dksX1_split_6 4 rfl rfl)
theorem dX1_split_145 : decode cX1_split 145 = .ok (.dup, 1) := dk_89 (dk_at dksX1_split_6 7 rfl rfl)
theorem dX1_split_146 : decode cX1_split 146 = .ok (.invokespecial 17, 3) := dk_183 0 17 (dk_at dksX1_split_6 8 rfl rfl)
theorem dX1_split_149 : decode cX1_split 149 = .ok (.aastore, 1) := dk_83 (dk_at dksX1_split_6 11 rfl rfl)
theorem dX1_split_150 : decode cX1_split 150 = .ok (.aload 6, 2) := dk_25 6 (dk_at dksX1_split_6 12 rfl rfl)
theorem dX1_split_152 : decode cX1_split 152 = .ok (.iload 7, 2) := dk_21 7 (dk_at dksX1_split_6 14 rfl rfl)
theorem dX1_split_154 : decode cX1_split 154 = .ok (.aaload, 1) := dk_50 (dk_at dksX1_split_6 16 rfl rfl)
theorem dX1_split_155 : decode cX1_split 155 = .ok (.aload_n 0, 1) := dk_42 (dk_at dksX1_split_6 17 rfl rfl)
theorem dX1_split_156 : decode cX1_split 156 = .ok (.getfield 22, 3) := dk_180 0 22 (dk_at dksX1_split_6 18 rfl rfl)
theorem dX1_split_159 : decode cX1_split 159 = .ok (.invokevirtual 314, 3) := dk_182 1 58 (dk_at dksX1_split_6 21 rfl rfl)
theorem dX1_split_162 : decode cX1_split 162 = .ok (.iinc 7 1, 3) := dk_132 7 1 (dk_at dksX1_split_7 0 rfl rfl)
theorem dX1_split_165 : decode cX1_split 165 = .ok (.goto (-61), 3) := dk_167 255 195 (dk_at dksX1_split_7 3 rfl rfl)
theorem dX1_split_168 : decode cX1_split 168 = .ok (.iload 5, 2) := dk_21 5 (dk_at dksX1_split_7 6 rfl rfl)
theorem dX1_split_170 : decode cX1_split 170 = .ok (.ifCond .le 72, 3) := dk_158 0 72 (dk_at dksX1_split_7 8 rfl rfl)
theorem dX1_split_173 : decode cX1_split 173 = .ok (.iconst 0, 1) := dk_3 (dk_at dksX1_split_7 11 rfl rfl)
theorem dX1_split_174 : decode cX1_split 174 = .ok (.istore 7, 2) := dk_54 7 (dk_at dksX1_split_7 12 rfl rfl)
theorem dX1_split_176 : decode cX1_split 176 = .ok (.iconst 1, 1) := dk_4 (dk_at dksX1_split_7 14 rfl rfl)
theorem dX1_split_177 : decode cX1_split 177 = .ok (.istore 8, 2) := dk_54 8 (dk_at dksX1_split_7 15 rfl rfl)
theorem dX1_split_179 : decode cX1_split 179 = .ok (.iload 8, 2) := dk_21 8 (dk_at dksX1_split_7 17 rfl rfl)
theorem dX1_split_181 : decode cX1_split 181 = .ok (.bipush 10, 2) := dk_16 10 (dk_at dksX1_split_7 19 rfl rfl)
theorem dX1_split_183 : decode cX1_split 183 = .ok (.if_icmp .ge 34, 3) := dk_162 0 34 (dk_at dksX1_split_7 21 rfl rfl)
theorem dX1_split_186 : decode cX1_split 186 = .ok (.aload 6, 2) := dk_25 6 (dk_at dksX1_split_8 0 rfl rfl)
theorem dX1_split_188 : decode cX1_split 188 = .ok (.iload 8, 2) := dk_21 8 (dk_at dksX1_split_8 2 rfl rfl)
theorem dX1_split_190 : decode cX1_split 190 = .ok (.aaload, 1) := dk_50 (dk_at dksX1_split_8 4 rfl rfl)
theorem dX1_split_191 : decode cX1_split 191 = .ok (.aload 6, 2) := dk_25 6 (dk_at dksX1_split_8 5 rfl rfl)
theorem dX1_split_193 : decode cX1_split 193 = .ok (.iload 7, 2) := dk_21 7 (dk_at dksX1_split_8 7 rfl rfl)
theorem dX1_split_195 : decode cX1_split 195 = .ok (.aaload, 1) := dk_50 (dk_at dksX1_split_8 9 rfl rfl)
theorem dX1_split_196 : decode cX1_split 196 = .ok (.invokevirtual 310, 3) := dk_182 1 54 (dk_at dksX1_split_8 10 rfl rfl)
theorem dX1_split_199 : decode cX1_split 199 = .ok (.ifCond .le 8, 3) := dk_158 0 8 (dk_at dksX1_split_8 13 rfl rfl)
theorem dX1_split_202 : decode cX1_split 202 = .ok (.iload 8, 2) := dk_21 8 (dk_at dksX1_split_8 16 rfl rfl)
theorem dX1_split_204 : decode cX1_split 204 = .ok (.goto 5, 3) := dk_167 0 5 (dk_at dksX1_split_8 18 rfl rfl)
theorem dX1_split_207 : decode cX1_split 207 = .ok (.iload 7, 2) := dk_21 7 (dk_at dksX1_split_8 21 rfl rfl)
theorem dX1_split_209 : decode cX1_split 209 = .ok (.istore 7, 2) := dk_54 7 (dk_at dksX1_split_9 0 rfl rfl)
theorem dX1_split_211 : decode cX1_split 211 = .ok (.iinc 8 1, 3) := dk_132 8 1 (dk_at dksX1_split_9 2 rfl rfl)
theorem dX1_split_214 : decode cX1_split 214 = .ok (.goto (-35), 3) := dk_167 255 221 (dk_at dksX1_split_9 5 rfl rfl)
theorem dX1_split_217 : decode cX1_split 217 = .ok (.aload_n 0, 1) := dk_42 (dk_at dksX1_split_9 8 rfl rfl)
theorem dX1_split_218 : decode cX1_split 218 = .ok (.getfield 35, 3) := dk_180 0 35 (dk_at dksX1_split_9 9 rfl rfl)
theorem dX1_split_221 : decode cX1_split 221 = .ok (.iload 7, 2) := dk_21 7 (dk_at dksX1_split_9 12 rfl rfl)
theorem dX1_split_223 : decode cX1_split 223 = .ok (.dup2, 1) := dk_92 (dk_at dksX1_split_9 14 rfl rfl)
theorem dX1_split_224 : decode cX1_split 224 = .ok (.iaload, 1) := dk_46 (dk_at dksX1_split_9 15 rfl rfl)
theorem dX1_split_225 : decode cX1_split 225 = .ok (.iconst 1, 1) := dk_4 (dk_at dksX1_split_9 16 rfl rfl)
theorem dX1_split_226 : decode cX1_split 226 = .ok (.iadd, 1) := dk_96 (dk_at dksX1_split_9 17 rfl rfl)
theorem dX1_split_227 : decode cX1_split 227 = .ok (.iastore, 1) := dk_79 (dk_at dksX1_split_9 18 rfl rfl)
theorem dX1_split_228 : decode cX1_split 228 = .ok (.aload 6, 2) := dk_25 6 (dk_at dksX1_split_9 19 rfl rfl)
theorem dX1_split_230 : decode cX1_split 230 = .ok (.iload 7, 2) := dk_21 7 (dk_at dksX1_split_9 21 rfl rfl)
theorem dX1_split_232 : decode cX1_split 232 = .ok (.aaload, 1) := dk_50 (dk_at dksX1_split_9 23 rfl rfl)
theorem dX1_split_233 : decode cX1_split 233 = .ok (.invokevirtual 148, 3) := dk_182 0 148 (dk_at dksX1_split_10 0 rfl rfl)
theorem dX1_split_236 : decode cX1_split 236 = .ok (.iinc 5 (-1), 3) := dk_132 5 255 (dk_at dksX1_split_10 3 rfl rfl)
theorem dX1_split_239 : decode cX1_split 239 = .ok (.goto (-71), 3) := dk_167 255 185 (dk_at dksX1_split_10 6 rfl rfl)
theorem dX1_split_242 : decode cX1_split 242 = .ok (.iconst 0, 1) := dk_3 (dk_at dksX1_split_10 9 rfl rfl)
theorem dX1_split_243 : decode cX1_split 243 = .ok (.istore 7, 2) := dk_54 7 (dk_at dksX1_split_10 10 rfl rfl)
theorem dX1_split_245 : decode cX1_split 245 = .ok (.aload_n 0, 1) := dk_42 (dk_at dksX1_split_10 12 rfl rfl)
theorem dX1_split_246 : decode cX1_split 246 = .ok (.getfield 35, 3) := dk_180 0 35 (dk_at dksX1_split_10 13 rfl rfl)
theorem dX1_split_249 : decode cX1_split 249 = .ok (.astore 8, 2) := dk_58 8 (dk_at dksX1_split_10 16 rfl rfl)
theorem dX1_split_251 : decode cX1_split 251 = .ok (.aload 8, 2) := dk_25 8 (dk_at dksX1_split_10 18 rfl rfl)
theorem dX1_split_253 : decode cX1_split 253 = .ok (.arraylength, 1) := dk_190 (dk_at dksX1_split_10 20 rfl rfl)
theorem dX1_split_254 : decode cX1_split 254 = .ok (.istore 9, 2) := dk_54 9 (dk_at dksX1_split_10 21 rfl rfl)
theorem dX1_split_256 : decode cX1_split 256 = .ok (.iconst 0, 1) := dk_3 (dk_at dksX1_split_10 23 rfl rfl)
theorem dX1_split_257 : decode cX1_split 257 = .ok (.istore 10, 2) := dk_54 10 (dk_at dksX1_split_11 0 rfl rfl)
theorem dX1_split_259 : decode cX1_split 259 = .ok (.iload 10, 2) := dk_21 10 (dk_at dksX1_split_11 2 rfl rfl)
theorem dX1_split_261 : decode cX1_split 261 = .ok (.iload 9, 2) := dk_21 9 (dk_at dksX1_split_11 4 rfl rfl)
theorem dX1_split_263 : decode cX1_split 263 = .ok (.if_icmp .ge 31, 3) := dk_162 0 31 (dk_at dksX1_split_11 6 rfl rfl)
theorem dX1_split_266 : decode cX1_split 266 = .ok (.aload 8, 2) := dk_25 8 (dk_at dksX1_split_11 9 rfl rfl)
theorem dX1_split_268 : decode cX1_split 268 = .ok (.iload 10, 2) := dk_21 10 (dk_at dksX1_split_11 11 rfl rfl)
theorem dX1_split_270 : decode cX1_split 270 = .ok (.iaload, 1) := dk_46 (dk_at dksX1_split_11 13 rfl rfl)
theorem dX1_split_271 : decode cX1_split 271 = .ok (.istore 11, 2) := dk_54 11 (dk_at dksX1_split_11 14 rfl rfl)
theorem dX1_split_273 : decode cX1_split 273 = .ok (.iload 7, 2) := dk_21 7 (dk_at dksX1_split_11 16 rfl rfl)
theorem dX1_split_275 : decode cX1_split 275 = .ok (.iload 11, 2) := dk_21 11 (dk_at dksX1_split_11 18 rfl rfl)
theorem dX1_split_277 : decode cX1_split 277 = .ok (.ifCond .le 7, 3) := dk_158 0 7 (dk_at dksX1_split_11 20 rfl rfl)
theorem dX1_split_280 : decode cX1_split 280 = .ok (.iconst 1, 1) := dk_4 (dk_at dksX1_split_11 23 rfl rfl)
theorem dX1_split_281 : decode cX1_split 281 = .ok (.goto 4, 3) := dk_167 0 4 (dk_at dksX1_split_12 0 rfl rfl)
theorem dX1_split_284 : decode cX1_split 284 = .ok (.iconst 0, 1) := dk_3 (dk_at dksX1_split_12 3 rfl rfl)
theorem dX1_split_285 : decode cX1_split 285 = .ok (.iadd, 1) := dk_96 (dk_at dksX1_split_12 4 rfl rfl)
theorem dX1_split_286 : decode cX1_split 286 = .ok (.istore 7, 2) := dk_54 7 (dk_at dksX1_split_12 5 rfl rfl)
theorem dX1_split_288 : decode cX1_split 288 = .ok (.iinc 10 1, 3) := dk_132 10 1 (dk_at dksX1_split_12 7 rfl rfl)
theorem dX1_split_291 : decode cX1_split 291 = .ok (.goto (-32), 3) := dk_167 255 224 (dk_at dksX1_split_12 10 rfl rfl)
theorem dX1_split_294 : decode cX1_split 294 = .ok (.iload 7, 2) := dk_21 7 (dk_at dksX1_split_12 13 rfl rfl)
theorem dX1_split_296 : decode cX1_split 296 = .ok (.ireturn, 1) := dk_172 (dk_at dksX1_split_12 15 rfl rfl)
abbrev cX1_quotient : ByteArray := prog_1_method_46_code
def yX1_quotient : MethodName := ⟨RX1, "quotient", "(LRoundingAuditor$Ledger;II)I"⟩
def dkwX1_quotient_5 : List UInt8 := [42, 180, 0, 25, 182, 1, 51, 42, 180, 0, 22, 42, 180, 0, 25, 182, 1, 127, 21, 4, 172]
abbrev dktX1_quotient_5 : List UInt8 := dkwX1_quotient_5 ++ []
def dkwX1_quotient_4 : List UInt8 := [167, 255, 190, 42, 180, 0, 25, 42, 180, 0, 18, 182, 1, 58, 42, 180, 0, 25, 21, 4, 133, 182, 0, 159]
abbrev dktX1_quotient_4 : List UInt8 := dkwX1_quotient_4 ++ dktX1_quotient_5
def dkwX1_quotient_3 : List UInt8 := [180, 0, 22, 182, 1, 54, 157, 0, 10, 21, 6, 54, 4, 167, 0, 9, 21, 6, 4, 100, 54, 5]
abbrev dktX1_quotient_3 : List UInt8 := dkwX1_quotient_3 ++ dktX1_quotient_4
def dkwX1_quotient_2 : List UInt8 := [42, 180, 0, 18, 182, 1, 58, 42, 180, 0, 25, 21, 6, 133, 182, 0, 159, 42, 180, 0, 25, 42]
abbrev dktX1_quotient_2 : List UInt8 := dkwX1_quotient_2 ++ dktX1_quotient_3
def dkwX1_quotient_1 : List UInt8 := [54, 5, 21, 4, 21, 5, 162, 0, 65, 21, 4, 21, 5, 96, 4, 96, 5, 108, 54, 6, 42, 180, 0, 25]
abbrev dktX1_quotient_1 : List UInt8 := dkwX1_quotient_1 ++ dktX1_quotient_2
def dkwX1_quotient_0 : List UInt8 := [42, 180, 0, 22, 43, 28, 2, 184, 1, 72, 42, 180, 0, 22, 29, 133, 182, 0, 159, 3, 54, 4, 29]
abbrev dktX1_quotient_0 : List UInt8 := dkwX1_quotient_0 ++ dktX1_quotient_1
theorem dksX1_quotient_0 : cX1_quotient.data.toList.drop 0 = dktX1_quotient_0 := by decide +kernel
theorem dksX1_quotient_1 : cX1_quotient.data.toList.drop 23 = dktX1_quotient_1 := dk_seg dksX1_quotient_0 23 rfl rfl
theorem dksX1_quotient_2 : cX1_quotient.data.toList.drop 47 = dktX1_quotient_2 := dk_seg dksX1_quotient_1 24 rfl rfl
theorem dksX1_quotient_3 : cX1_quotient.data.toList.drop 69 = dktX1_quotient_3 := dk_seg dksX1_quotient_2 22 rfl rfl
theorem dksX1_quotient_4 : cX1_quotient.data.toList.drop 91 = dktX1_quotient_4 := dk_seg dksX1_quotient_3 22 rfl rfl
theorem dksX1_quotient_5 : cX1_quotient.data.toList.drop 115 = dktX1_quotient_5 := dk_seg dksX1_quotient_4 24 rfl rfl
theorem dX1_quotient_0 : decode cX1_quotient 0 = .ok (.aload_n 0, 1) := dk_42 (dk_at dksX1_quotient_0 0 rfl rfl)
theorem dX1_quotient_1 : decode cX1_quotient 1 = .ok (.getfield 22, 3) := dk_180 0 22 (dk_at dksX1_quotient_0 1 rfl rfl)
theorem dX1_quotient_4 : decode cX1_quotient 4 = .ok (.aload_n 1, 1) := dk_43 (dk_at dksX1_quotient_0 4 rfl rfl)
theorem dX1_quotient_5 : decode cX1_quotient 5 = .ok (.iload_n 2, 1) := dk_28 (dk_at dksX1_quotient_0 5 rfl rfl)
theorem dX1_quotient_6 : decode cX1_quotient 6 = .ok (.iconst (-1), 1) := dk_2 (dk_at dksX1_quotient_0 6 rfl rfl)
theorem dX1_quotient_7 : decode cX1_quotient 7 = .ok (.invokestatic 328, 3) := dk_184 1 72 (dk_at dksX1_quotient_0 7 rfl rfl)
theorem dX1_quotient_10 : decode cX1_quotient 10 = .ok (.aload_n 0, 1) := dk_42 (dk_at dksX1_quotient_0 10 rfl rfl)
theorem dX1_quotient_11 : decode cX1_quotient 11 = .ok (.getfield 22, 3) := dk_180 0 22 (dk_at dksX1_quotient_0 11 rfl rfl)
theorem dX1_quotient_14 : decode cX1_quotient 14 = .ok (.iload_n 3, 1) := dk_29 (dk_at dksX1_quotient_0 14 rfl rfl)
theorem dX1_quotient_15 : decode cX1_quotient 15 = .ok (.i2l, 1) := dk_133 (dk_at dksX1_quotient_0 15 rfl rfl)
theorem dX1_quotient_16 : decode cX1_quotient 16 = .ok (.invokevirtual 159, 3) := dk_182 0 159 (dk_at dksX1_quotient_0 16 rfl rfl)
theorem dX1_quotient_19 : decode cX1_quotient 19 = .ok (.iconst 0, 1) := dk_3 (dk_at dksX1_quotient_0 19 rfl rfl)
theorem dX1_quotient_20 : decode cX1_quotient 20 = .ok (.istore 4, 2) := dk_54 4 (dk_at dksX1_quotient_0 20 rfl rfl)
theorem dX1_quotient_22 : decode cX1_quotient 22 = .ok (.iload_n 3, 1) := dk_29 (dk_at dksX1_quotient_0 22 rfl rfl)
theorem dX1_quotient_23 : decode cX1_quotient 23 = .ok (.istore 5, 2) := dk_54 5 (dk_at dksX1_quotient_1 0 rfl rfl)
theorem dX1_quotient_25 : decode cX1_quotient 25 = .ok (.iload 4, 2) := dk_21 4 (dk_at dksX1_quotient_1 2 rfl rfl)
theorem dX1_quotient_27 : decode cX1_quotient 27 = .ok (.iload 5, 2) := dk_21 5 (dk_at dksX1_quotient_1 4 rfl rfl)
theorem dX1_quotient_29 : decode cX1_quotient 29 = .ok (.if_icmp .ge 65, 3) := dk_162 0 65 (dk_at dksX1_quotient_1 6 rfl rfl)
theorem dX1_quotient_32 : decode cX1_quotient 32 = .ok (.iload 4, 2) := dk_21 4 (dk_at dksX1_quotient_1 9 rfl rfl)
theorem dX1_quotient_34 : decode cX1_quotient 34 = .ok (.iload 5, 2) := dk_21 5 (dk_at dksX1_quotient_1 11 rfl rfl)
theorem dX1_quotient_36 : decode cX1_quotient 36 = .ok (.iadd, 1) := dk_96 (dk_at dksX1_quotient_1 13 rfl rfl)
theorem dX1_quotient_37 : decode cX1_quotient 37 = .ok (.iconst 1, 1) := dk_4 (dk_at dksX1_quotient_1 14 rfl rfl)
theorem dX1_quotient_38 : decode cX1_quotient 38 = .ok (.iadd, 1) := dk_96 (dk_at dksX1_quotient_1 15 rfl rfl)
theorem dX1_quotient_39 : decode cX1_quotient 39 = .ok (.iconst 2, 1) := dk_5 (dk_at dksX1_quotient_1 16 rfl rfl)
theorem dX1_quotient_40 : decode cX1_quotient 40 = .ok (.idiv, 1) := dk_108 (dk_at dksX1_quotient_1 17 rfl rfl)
theorem dX1_quotient_41 : decode cX1_quotient 41 = .ok (.istore 6, 2) := dk_54 6 (dk_at dksX1_quotient_1 18 rfl rfl)
theorem dX1_quotient_43 : decode cX1_quotient 43 = .ok (.aload_n 0, 1) := dk_42 (dk_at dksX1_quotient_1 20 rfl rfl)
theorem dX1_quotient_44 : decode cX1_quotient 44 = .ok (.getfield 25, 3) := dk_180 0 25 (dk_at dksX1_quotient_1 21 rfl rfl)
theorem dX1_quotient_47 : decode cX1_quotient 47 = .ok (.aload_n 0, 1) := dk_42 (dk_at dksX1_quotient_2 0 rfl rfl)
theorem dX1_quotient_48 : decode cX1_quotient 48 = .ok (.getfield 18, 3) := dk_180 0 18 (dk_at dksX1_quotient_2 1 rfl rfl)
theorem dX1_quotient_51 : decode cX1_quotient 51 = .ok (.invokevirtual 314, 3) := dk_182 1 58 (dk_at dksX1_quotient_2 4 rfl rfl)
theorem dX1_quotient_54 : decode cX1_quotient 54 = .ok (.aload_n 0, 1) := dk_42 (dk_at dksX1_quotient_2 7 rfl rfl)
theorem dX1_quotient_55 : decode cX1_quotient 55 = .ok (.getfield 25, 3) := dk_180 0 25 (dk_at dksX1_quotient_2 8 rfl rfl)
theorem dX1_quotient_58 : decode cX1_quotient 58 = .ok (.iload 6, 2) := dk_21 6 (dk_at dksX1_quotient_2 11 rfl rfl)
theorem dX1_quotient_60 : decode cX1_quotient 60 = .ok (.i2l, 1) := dk_133 (dk_at dksX1_quotient_2 13 rfl rfl)
theorem dX1_quotient_61 : decode cX1_quotient 61 = .ok (.invokevirtual 159, 3) := dk_182 0 159 (dk_at dksX1_quotient_2 14 rfl rfl)
theorem dX1_quotient_64 : decode cX1_quotient 64 = .ok (.aload_n 0, 1) := dk_42 (dk_at dksX1_quotient_2 17 rfl rfl)
theorem dX1_quotient_65 : decode cX1_quotient 65 = .ok (.getfield 25, 3) := dk_180 0 25 (dk_at dksX1_quotient_2 18 rfl rfl)
theorem dX1_quotient_68 : decode cX1_quotient 68 = .ok (.aload_n 0, 1) := dk_42 (dk_at dksX1_quotient_2 21 rfl rfl)
theorem dX1_quotient_69 : decode cX1_quotient 69 = .ok (.getfield 22, 3) := dk_180 0 22 (dk_at dksX1_quotient_3 0 rfl rfl)
theorem dX1_quotient_72 : decode cX1_quotient 72 = .ok (.invokevirtual 310, 3) := dk_182 1 54 (dk_at dksX1_quotient_3 3 rfl rfl)
theorem dX1_quotient_75 : decode cX1_quotient 75 = .ok (.ifCond .gt 10, 3) := dk_157 0 10 (dk_at dksX1_quotient_3 6 rfl rfl)
theorem dX1_quotient_78 : decode cX1_quotient 78 = .ok (.iload 6, 2) := dk_21 6 (dk_at dksX1_quotient_3 9 rfl rfl)
theorem dX1_quotient_80 : decode cX1_quotient 80 = .ok (.istore 4, 2) := dk_54 4 (dk_at dksX1_quotient_3 11 rfl rfl)
theorem dX1_quotient_82 : decode cX1_quotient 82 = .ok (.goto 9, 3) := dk_167 0 9 (dk_at dksX1_quotient_3 13 rfl rfl)
theorem dX1_quotient_85 : decode cX1_quotient 85 = .ok (.iload 6, 2) := dk_21 6 (dk_at dksX1_quotient_3 16 rfl rfl)
theorem dX1_quotient_87 : decode cX1_quotient 87 = .ok (.iconst 1, 1) := dk_4 (dk_at dksX1_quotient_3 18 rfl rfl)
theorem dX1_quotient_88 : decode cX1_quotient 88 = .ok (.isub, 1) := dk_100 (dk_at dksX1_quotient_3 19 rfl rfl)
theorem dX1_quotient_89 : decode cX1_quotient 89 = .ok (.istore 5, 2) := dk_54 5 (dk_at dksX1_quotient_3 20 rfl rfl)
theorem dX1_quotient_91 : decode cX1_quotient 91 = .ok (.goto (-66), 3) := dk_167 255 190 (dk_at dksX1_quotient_4 0 rfl rfl)
theorem dX1_quotient_94 : decode cX1_quotient 94 = .ok (.aload_n 0, 1) := dk_42 (dk_at dksX1_quotient_4 3 rfl rfl)
theorem dX1_quotient_95 : decode cX1_quotient 95 = .ok (.getfield 25, 3) := dk_180 0 25 (dk_at dksX1_quotient_4 4 rfl rfl)
theorem dX1_quotient_98 : decode cX1_quotient 98 = .ok (.aload_n 0, 1) := dk_42 (dk_at dksX1_quotient_4 7 rfl rfl)
theorem dX1_quotient_99 : decode cX1_quotient 99 = .ok (.getfield 18, 3) := dk_180 0 18 (dk_at dksX1_quotient_4 8 rfl rfl)
theorem dX1_quotient_102 : decode cX1_quotient 102 = .ok (.invokevirtual 314, 3) := dk_182 1 58 (dk_at dksX1_quotient_4 11 rfl rfl)
theorem dX1_quotient_105 : decode cX1_quotient 105 = .ok (.aload_n 0, 1) := dk_42 (dk_at dksX1_quotient_4 14 rfl rfl)
theorem dX1_quotient_106 : decode cX1_quotient 106 = .ok (.getfield 25, 3) := dk_180 0 25 (dk_at dksX1_quotient_4 15 rfl rfl)
theorem dX1_quotient_109 : decode cX1_quotient 109 = .ok (.iload 4, 2) := dk_21 4 (dk_at dksX1_quotient_4 18 rfl rfl)
theorem dX1_quotient_111 : decode cX1_quotient 111 = .ok (.i2l, 1) := dk_133 (dk_at dksX1_quotient_4 20 rfl rfl)
theorem dX1_quotient_112 : decode cX1_quotient 112 = .ok (.invokevirtual 159, 3) := dk_182 0 159 (dk_at dksX1_quotient_4 21 rfl rfl)
theorem dX1_quotient_115 : decode cX1_quotient 115 = .ok (.aload_n 0, 1) := dk_42 (dk_at dksX1_quotient_5 0 rfl rfl)
theorem dX1_quotient_116 : decode cX1_quotient 116 = .ok (.getfield 25, 3) := dk_180 0 25 (dk_at dksX1_quotient_5 1 rfl rfl)
theorem dX1_quotient_119 : decode cX1_quotient 119 = .ok (.invokevirtual 307, 3) := dk_182 1 51 (dk_at dksX1_quotient_5 4 rfl rfl)
theorem dX1_quotient_122 : decode cX1_quotient 122 = .ok (.aload_n 0, 1) := dk_42 (dk_at dksX1_quotient_5 7 rfl rfl)
theorem dX1_quotient_123 : decode cX1_quotient 123 = .ok (.getfield 22, 3) := dk_180 0 22 (dk_at dksX1_quotient_5 8 rfl rfl)
theorem dX1_quotient_126 : decode cX1_quotient 126 = .ok (.aload_n 0, 1) := dk_42 (dk_at dksX1_quotient_5 11 rfl rfl)
theorem dX1_quotient_127 : decode cX1_quotient 127 = .ok (.getfield 25, 3) := dk_180 0 25 (dk_at dksX1_quotient_5 12 rfl rfl)
theorem dX1_quotient_130 : decode cX1_quotient 130 = .ok (.invokevirtual 383, 3) := dk_182 1 127 (dk_at dksX1_quotient_5 15 rfl rfl)
theorem dX1_quotient_133 : decode cX1_quotient 133 = .ok (.iload 4, 2) := dk_21 4 (dk_at dksX1_quotient_5 18 rfl rfl)
theorem dX1_quotient_135 : decode cX1_quotient 135 = .ok (.ireturn, 1) := dk_172 (dk_at dksX1_quotient_5 20 rfl rfl)
abbrev cX1_sign : ByteArray := prog_1_method_49_code
def yX1_sign : MethodName := ⟨RX1, "sign", "(III)I"⟩
def dkwX1_sign_3 : List UInt8 := [42, 180, 0, 18, 182, 1, 48, 172]
abbrev dktX1_sign_3 : List UInt8 := dkwX1_sign_3 ++ []
def dkwX1_sign_2 : List UInt8 := [25, 4, 28, 154, 0, 7, 29, 167, 0, 4, 2, 28, 4, 160, 0, 7, 29, 167, 0, 4, 2, 184, 1, 72]
abbrev dktX1_sign_2 : List UInt8 := dkwX1_sign_2 ++ dktX1_sign_3
def dkwX1_sign_1 : List UInt8 := [20, 0, 61, 184, 0, 57, 154, 0, 6, 16, 154, 172, 42, 180, 0, 11, 27, 50, 58, 4, 42, 180, 0, 18]
abbrev dktX1_sign_1 : List UInt8 := dkwX1_sign_1 ++ dktX1_sign_2
def dkwX1_sign_0 : List UInt8 := [28, 133, 9, 10, 184, 0, 57, 153, 0, 25, 29, 133, 9, 28, 154, 0, 9, 20, 0, 55, 167, 0, 6]
abbrev dktX1_sign_0 : List UInt8 := dkwX1_sign_0 ++ dktX1_sign_1
theorem dksX1_sign_0 : cX1_sign.data.toList.drop 0 = dktX1_sign_0 := by decide +kernel
theorem dksX1_sign_1 : cX1_sign.data.toList.drop 23 = dktX1_sign_1 := dk_seg dksX1_sign_0 23 rfl rfl
theorem dksX1_sign_2 : cX1_sign.data.toList.drop 47 = dktX1_sign_2 := dk_seg dksX1_sign_1 24 rfl rfl
theorem dksX1_sign_3 : cX1_sign.data.toList.drop 71 = dktX1_sign_3 := dk_seg dksX1_sign_2 24 rfl rfl
theorem dX1_sign_0 : decode cX1_sign 0 = .ok (.iload_n 2, 1) := dk_28 (dk_at dksX1_sign_0 0 rfl rfl)
theorem dX1_sign_1 : decode cX1_sign 1 = .ok (.i2l, 1) := dk_133 (dk_at dksX1_sign_0 1 rfl rfl)
theorem dX1_sign_2 : decode cX1_sign 2 = .ok (.lconst 0, 1) := dk_9 (dk_at dksX1_sign_0 2 rfl rfl)
theorem dX1_sign_3 : decode cX1_sign 3 = .ok (.lconst 1, 1) := dk_10 (dk_at dksX1_sign_0 3 rfl rfl)
theorem dX1_sign_4 : decode cX1_sign 4 = .ok (.invokestatic 57, 3) := dk_184 0 57 (dk_at dksX1_sign_0 4 rfl rfl)
theorem dX1_sign_7 : decode cX1_sign 7 = .ok (.ifCond .eq 25, 3) := dk_153 0 25 (dk_at dksX1_sign_0 7 rfl rfl)
theorem dX1_sign_10 : decode cX1_sign 10 = .ok (.iload_n 3, 1) := dk_29 (dk_at dksX1_sign_0 10 rfl rfl)
theorem dX1_sign_11 : decode cX1_sign 11 = .ok (.i2l, 1) := dk_133 (dk_at dksX1_sign_0 11 rfl rfl)
theorem dX1_sign_12 : decode cX1_sign 12 = .ok (.lconst 0, 1) := dk_9 (dk_at dksX1_sign_0 12 rfl rfl)
theorem dX1_sign_13 : decode cX1_sign 13 = .ok (.iload_n 2, 1) := dk_28 (dk_at dksX1_sign_0 13 rfl rfl)
theorem dX1_sign_14 : decode cX1_sign 14 = .ok (.ifCond .ne 9, 3) := dk_154 0 9 (dk_at dksX1_sign_0 14 rfl rfl)
theorem dX1_sign_17 : decode cX1_sign 17 = .ok (.ldc2_w 55, 3) := dk_20 0 55 (dk_at dksX1_sign_0 17 rfl rfl)
theorem dX1_sign_20 : decode cX1_sign 20 = .ok (.goto 6, 3) := dk_167 0 6 (dk_at dksX1_sign_0 20 rfl rfl)
theorem dX1_sign_23 : decode cX1_sign 23 = .ok (.ldc2_w 61, 3) := dk_20 0 61 (dk_at dksX1_sign_1 0 rfl rfl)
theorem dX1_sign_26 : decode cX1_sign 26 = .ok (.invokestatic 57, 3) := dk_184 0 57 (dk_at dksX1_sign_1 3 rfl rfl)
theorem dX1_sign_29 : decode cX1_sign 29 = .ok (.ifCond .ne 6, 3) := dk_154 0 6 (dk_at dksX1_sign_1 6 rfl rfl)
theorem dX1_sign_32 : decode cX1_sign 32 = .ok (.bipush (-102), 2) := dk_16 154 (dk_at dksX1_sign_1 9 rfl rfl)
theorem dX1_sign_34 : decode cX1_sign 34 = .ok (.ireturn, 1) := dk_172 (dk_at dksX1_sign_1 11 rfl rfl)
theorem dX1_sign_35 : decode cX1_sign 35 = .ok (.aload_n 0, 1) := dk_42 (dk_at dksX1_sign_1 12 rfl rfl)
theorem dX1_sign_36 : decode cX1_sign 36 = .ok (.getfield 11, 3) := dk_180 0 11 (dk_at dksX1_sign_1 13 rfl rfl)
theorem dX1_sign_39 : decode cX1_sign 39 = .ok (.iload_n 1, 1) := dk_27 (dk_at dksX1_sign_1 16 rfl rfl)
theorem dX1_sign_40 : decode cX1_sign 40 = .ok (.aaload, 1) := dk_50 (dk_at dksX1_sign_1 17 rfl rfl)
theorem dX1_sign_41 : decode cX1_sign 41 = .ok (.astore 4, 2) := dk_58 4 (dk_at dksX1_sign_1 18 rfl rfl)
theorem dX1_sign_43 : decode cX1_sign 43 = .ok (.aload_n 0, 1) := dk_42 (dk_at dksX1_sign_1 20 rfl rfl)
theorem dX1_sign_44 : decode cX1_sign 44 = .ok (.getfield 18, 3) := dk_180 0 18 (dk_at dksX1_sign_1 21 rfl rfl)
theorem dX1_sign_47 : decode cX1_sign 47 = .ok (.aload 4, 2) := dk_25 4 (dk_at dksX1_sign_2 0 rfl rfl)
theorem dX1_sign_49 : decode cX1_sign 49 = .ok (.iload_n 2, 1) := dk_28 (dk_at dksX1_sign_2 2 rfl rfl)
theorem dX1_sign_50 : decode cX1_sign 50 = .ok (.ifCond .ne 7, 3) := dk_154 0 7 (dk_at dksX1_sign_2 3 rfl rfl)
theorem dX1_sign_53 : decode cX1_sign 53 = .ok (.iload_n 3, 1) := dk_29 (dk_at dksX1_sign_2 6 rfl rfl)
theorem dX1_sign_54 : decode cX1_sign 54 = .ok (.goto 4, 3) := dk_167 0 4 (dk_at dksX1_sign_2 7 rfl rfl)
theorem dX1_sign_57 : decode cX1_sign 57 = .ok (.iconst (-1), 1) := dk_2 (dk_at dksX1_sign_2 10 rfl rfl)
theorem dX1_sign_58 : decode cX1_sign 58 = .ok (.iload_n 2, 1) := dk_28 (dk_at dksX1_sign_2 11 rfl rfl)
theorem dX1_sign_59 : decode cX1_sign 59 = .ok (.iconst 1, 1) := dk_4 (dk_at dksX1_sign_2 12 rfl rfl)
theorem dX1_sign_60 : decode cX1_sign 60 = .ok (.if_icmp .ne 7, 3) := dk_160 0 7 (dk_at dksX1_sign_2 13 rfl rfl)
theorem dX1_sign_63 : decode cX1_sign 63 = .ok (.iload_n 3, 1) := dk_29 (dk_at dksX1_sign_2 16 rfl rfl)
theorem dX1_sign_64 : decode cX1_sign 64 = .ok (.goto 4, 3) := dk_167 0 4 (dk_at dksX1_sign_2 17 rfl rfl)
theorem dX1_sign_67 : decode cX1_sign 67 = .ok (.iconst (-1), 1) := dk_2 (dk_at dksX1_sign_2 20 rfl rfl)
theorem dX1_sign_68 : decode cX1_sign 68 = .ok (.invokestatic 328, 3) := dk_184 1 72 (dk_at dksX1_sign_2 21 rfl rfl)
theorem dX1_sign_71 : decode cX1_sign 71 = .ok (.aload_n 0, 1) := dk_42 (dk_at dksX1_sign_3 0 rfl rfl)
theorem dX1_sign_72 : decode cX1_sign 72 = .ok (.getfield 18, 3) := dk_180 0 18 (dk_at dksX1_sign_3 1 rfl rfl)
theorem dX1_sign_75 : decode cX1_sign 75 = .ok (.invokevirtual 304, 3) := dk_182 1 48 (dk_at dksX1_sign_3 4 rfl rfl)
theorem dX1_sign_78 : decode cX1_sign 78 = .ok (.ireturn, 1) := dk_172 (dk_at dksX1_sign_3 7 rfl rfl)
theorem q65 : (Jvm.Cond.initialized "RoundingAuditor") ∈ lw_all := lw_g (lw_at lw_m1 1 rfl) rfl
theorem q113 : (Jvm.Cond.instantiable "RoundingAuditor" (7 : Nat)) ∈ lw_all := lw_g (lw_at lw_m1 49 rfl) rfl
theorem q115 : (Jvm.Cond.instanceMethod ({ cls := "RoundingAuditor", name := "<init>", desc := "()V" } : Jvm.MethodName)) ∈ lw_all := lw_g (lw_at lw_m1 51 rfl) rfl
theorem q116 : (Jvm.Cond.code ({ cls := "RoundingAuditor", name := "<init>", desc := "()V" } : Jvm.MethodName) prog_1_method_1_code (1 : Nat) (Option.none : Option Jvm.ClassFile.FieldType)) ∈ lw_all := lw_g (lw_at lw_m1 52 rfl) rfl
theorem q117 : (Jvm.Cond.methodLink "RoundingAuditor" (1 : Nat) ({ cls := "java/lang/Object", name := "<init>", desc := "()V" } : Jvm.MethodName)) ∈ lw_all := lw_g (lw_at lw_m1 53 rfl) rfl
theorem q120 : (Jvm.Cond.classLink "RoundingAuditor" (9 : Nat) "RoundingAuditor$Ledger") ∈ lw_all := lw_g (lw_at lw_m1 56 rfl) rfl
theorem q122 : (Jvm.Cond.classLink "RoundingAuditor" (15 : Nat) "RoundingAuditor$Exact") ∈ lw_all := lw_g (lw_at lw_m1 58 rfl) rfl
theorem q124 : (Jvm.Cond.methodLinkNest "RoundingAuditor" (17 : Nat) ({ cls := "RoundingAuditor$Exact", name := "<init>", desc := "()V" } : Jvm.MethodName) "RoundingAuditor") ∈ lw_tbl := lw_at lw_m1 60 rfl
theorem q133 : (Jvm.Cond.classLink "RoundingAuditor" (28 : Nat) "java/util/ArrayList") ∈ lw_all := lw_g (lw_at lw_m1 69 rfl) rfl
theorem q135 : (Jvm.Cond.methodLink "RoundingAuditor" (30 : Nat) ({ cls := "java/util/ArrayList", name := "<init>", desc := "()V" } : Jvm.MethodName)) ∈ lw_all := lw_g (lw_at lw_m1 71 rfl) rfl
theorem q159 : (Jvm.Cond.fieldLink "RoundingAuditor" (11 : Nat) "RoundingAuditor" "ledgers" "[LRoundingAuditor$Ledger;") ∈ lw_all := lw_g (lw_at lw_m1 95 rfl) rfl
theorem q160 : (Jvm.Cond.fieldLink "RoundingAuditor" (18 : Nat) "RoundingAuditor" "one" "LRoundingAuditor$Exact;") ∈ lw_all := lw_g (lw_at lw_m1 96 rfl) rfl
theorem q161 : (Jvm.Cond.fieldLink "RoundingAuditor" (22 : Nat) "RoundingAuditor" "two" "LRoundingAuditor$Exact;") ∈ lw_all := lw_g (lw_at lw_m1 97 rfl) rfl
theorem q162 : (Jvm.Cond.fieldLink "RoundingAuditor" (25 : Nat) "RoundingAuditor" "three" "LRoundingAuditor$Exact;") ∈ lw_all := lw_g (lw_at lw_m1 98 rfl) rfl
theorem q163 : (Jvm.Cond.fieldLink "RoundingAuditor" (31 : Nat) "RoundingAuditor" "runs" "Ljava/util/List;") ∈ lw_all := lw_g (lw_at lw_m1 99 rfl) rfl
theorem q164 : (Jvm.Cond.fieldLink "RoundingAuditor" (380 : Nat) "RoundingAuditor" "cure" "I") ∈ lw_all := lw_g (lw_at lw_m1 100 rfl) rfl
theorem q165 : (Jvm.Cond.fieldLink "RoundingAuditor" (35 : Nat) "RoundingAuditor" "shares" "[I") ∈ lw_all := lw_g (lw_at lw_m1 101 rfl) rfl
theorem q166 : (Jvm.Cond.laysFinal "RoundingAuditor" "RoundingAuditor" "ledgers" "[LRoundingAuditor$Ledger;") ∈ lw_all := lw_g (lw_at lw_m1 102 rfl) rfl
theorem q167 : (Jvm.Cond.soleField "RoundingAuditor" "ledgers") ∈ lw_all := lw_g (lw_at lw_m1 103 rfl) rfl
theorem q168 : (Jvm.Cond.laysFinal "RoundingAuditor" "RoundingAuditor" "one" "LRoundingAuditor$Exact;") ∈ lw_all := lw_g (lw_at lw_m1 104 rfl) rfl
theorem q169 : (Jvm.Cond.soleField "RoundingAuditor" "one") ∈ lw_all := lw_g (lw_at lw_m1 105 rfl) rfl
theorem q170 : (Jvm.Cond.laysFinal "RoundingAuditor" "RoundingAuditor" "two" "LRoundingAuditor$Exact;") ∈ lw_all := lw_g (lw_at lw_m1 106 rfl) rfl
theorem q171 : (Jvm.Cond.soleField "RoundingAuditor" "two") ∈ lw_all := lw_g (lw_at lw_m1 107 rfl) rfl
theorem q172 : (Jvm.Cond.laysFinal "RoundingAuditor" "RoundingAuditor" "three" "LRoundingAuditor$Exact;") ∈ lw_all := lw_g (lw_at lw_m1 108 rfl) rfl
theorem q173 : (Jvm.Cond.soleField "RoundingAuditor" "three") ∈ lw_all := lw_g (lw_at lw_m1 109 rfl) rfl
theorem q174 : (Jvm.Cond.laysFinal "RoundingAuditor" "RoundingAuditor" "runs" "Ljava/util/List;") ∈ lw_all := lw_g (lw_at lw_m1 110 rfl) rfl
theorem q175 : (Jvm.Cond.soleField "RoundingAuditor" "runs") ∈ lw_all := lw_g (lw_at lw_m1 111 rfl) rfl
theorem q176 : (Jvm.Cond.lays "RoundingAuditor" "RoundingAuditor" "cure" "I") ∈ lw_all := lw_g (lw_at lw_m1 112 rfl) rfl
theorem q177 : (Jvm.Cond.soleField "RoundingAuditor" "cure") ∈ lw_all := lw_g (lw_at lw_m1 113 rfl) rfl
theorem q178 : (Jvm.Cond.laysFinal "RoundingAuditor" "RoundingAuditor" "shares" "[I") ∈ lw_all := lw_g (lw_at lw_m1 114 rfl) rfl
theorem q179 : (Jvm.Cond.soleField "RoundingAuditor" "shares") ∈ lw_all := lw_g (lw_at lw_m1 115 rfl) rfl
theorem q180 : (Jvm.Cond.superclass "RoundingAuditor" "java/lang/Object") ∈ lw_all := lw_g (lw_at lw_m1 116 rfl) rfl
theorem q182 : (Jvm.Cond.instanceMethod ({ cls := "RoundingAuditor", name := "total", desc := "(I)J" } : Jvm.MethodName)) ∈ lw_all := lw_g (lw_at lw_m1 118 rfl) rfl
theorem q183 : (Jvm.Cond.selects "RoundingAuditor" ({ cls := "RoundingAuditor", name := "total", desc := "(I)J" } : Jvm.MethodName) ({ cls := "RoundingAuditor", name := "total", desc := "(I)J" } : Jvm.MethodName)) ∈ lw_all := lw_g (lw_at lw_m1 119 rfl) rfl
theorem q184 : (Jvm.Cond.code ({ cls := "RoundingAuditor", name := "total", desc := "(I)J" } : Jvm.MethodName) prog_1_method_24_code (2 : Nat) (Option.some Jvm.ClassFile.FieldType.long)) ∈ lw_all := lw_g (lw_at lw_m1 120 rfl) rfl
theorem q185 : (Jvm.Cond.methodLink "RoundingAuditor" (258 : Nat) ({ cls := "RoundingAuditor", name := "isRun", desc := "(I)Z" } : Jvm.MethodName)) ∈ lw_all := lw_g (lw_at lw_m1 121 rfl) rfl
theorem q186 : (Jvm.Cond.privateMethod ({ cls := "RoundingAuditor", name := "isRun", desc := "(I)Z" } : Jvm.MethodName)) ∈ lw_tbl := lw_at lw_m1 122 rfl
theorem q187 : (Jvm.Cond.instanceMethod ({ cls := "RoundingAuditor", name := "isRun", desc := "(I)Z" } : Jvm.MethodName)) ∈ lw_all := lw_g (lw_at lw_m1 123 rfl) rfl
theorem q188 : (Jvm.Cond.code ({ cls := "RoundingAuditor", name := "isRun", desc := "(I)Z" } : Jvm.MethodName) prog_1_method_22_code (2 : Nat) (Option.some Jvm.ClassFile.FieldType.boolean)) ∈ lw_all := lw_g (lw_at lw_m1 124 rfl) rfl
theorem q189 : (Jvm.Cond.interfaceEntry "RoundingAuditor" (250 : Nat)) ∈ lw_tbl := lw_at lw_m1 125 rfl
theorem q190 : (Jvm.Cond.methodLink "RoundingAuditor" (250 : Nat) ({ cls := "java/util/List", name := "size", desc := "()I" } : Jvm.MethodName)) ∈ lw_all := lw_g (lw_at lw_m1 126 rfl) rfl
theorem q199 : (Jvm.Cond.methodLink "RoundingAuditor" (57 : Nat) ({ cls := "RoundingAuditor", name := "isIn", desc := "(JJJ)Z" } : Jvm.MethodName)) ∈ lw_all := lw_g (lw_at lw_m1 135 rfl) rfl
theorem q200 : (Jvm.Cond.static ({ cls := "RoundingAuditor", name := "isIn", desc := "(JJJ)Z" } : Jvm.MethodName)) ∈ lw_all := lw_g (lw_at lw_m1 136 rfl) rfl
theorem q201 : (Jvm.Cond.code ({ cls := "RoundingAuditor", name := "isIn", desc := "(JJJ)Z" } : Jvm.MethodName) prog_1_method_2_code (6 : Nat) (Option.some Jvm.ClassFile.FieldType.boolean)) ∈ lw_all := lw_g (lw_at lw_m1 137 rfl) rfl
theorem q202 : (Jvm.Cond.interfaceEntry "RoundingAuditor" (261 : Nat)) ∈ lw_tbl := lw_at lw_m1 138 rfl
theorem q203 : (Jvm.Cond.methodLink "RoundingAuditor" (261 : Nat) ({ cls := "java/util/List", name := "get", desc := "(I)Ljava/lang/Object;" } : Jvm.MethodName)) ∈ lw_all := lw_g (lw_at lw_m1 139 rfl) rfl
theorem q221 : (Jvm.Cond.classLink "RoundingAuditor" (228 : Nat) "RoundingAuditor$Tape") ∈ lw_all := lw_g (lw_at lw_m1 157 rfl) rfl
theorem q222 : (Jvm.Cond.methodLink "RoundingAuditor" (269 : Nat) ({ cls := "RoundingAuditor$Tape", name := "bits", desc := "(D)J" } : Jvm.MethodName)) ∈ lw_all := lw_g (lw_at lw_m1 158 rfl) rfl
theorem q246 : (Jvm.Cond.constantLong "RoundingAuditor" (270 : Nat) (-101 : Int64)) ∈ lw_all := lw_g (lw_at lw_m1 182 rfl) rfl
theorem q248 : (Jvm.Cond.instanceMethod ({ cls := "RoundingAuditor", name := "steps", desc := "(I)I" } : Jvm.MethodName)) ∈ lw_all := lw_g (lw_at lw_m1 184 rfl) rfl
theorem q249 : (Jvm.Cond.selects "RoundingAuditor" ({ cls := "RoundingAuditor", name := "steps", desc := "(I)I" } : Jvm.MethodName) ({ cls := "RoundingAuditor", name := "steps", desc := "(I)I" } : Jvm.MethodName)) ∈ lw_all := lw_g (lw_at lw_m1 185 rfl) rfl
theorem q250 : (Jvm.Cond.code ({ cls := "RoundingAuditor", name := "steps", desc := "(I)I" } : Jvm.MethodName) prog_1_method_25_code (2 : Nat) (Option.some Jvm.ClassFile.FieldType.int)) ∈ lw_all := lw_g (lw_at lw_m1 186 rfl) rfl
theorem q252 : (Jvm.Cond.instanceMethod ({ cls := "RoundingAuditor", name := "step", desc := "(III)J" } : Jvm.MethodName)) ∈ lw_all := lw_g (lw_at lw_m1 188 rfl) rfl
theorem q253 : (Jvm.Cond.selects "RoundingAuditor" ({ cls := "RoundingAuditor", name := "step", desc := "(III)J" } : Jvm.MethodName) ({ cls := "RoundingAuditor", name := "step", desc := "(III)J" } : Jvm.MethodName)) ∈ lw_all := lw_g (lw_at lw_m1 189 rfl) rfl
theorem q254 : (Jvm.Cond.code ({ cls := "RoundingAuditor", name := "step", desc := "(III)J" } : Jvm.MethodName) prog_1_method_27_code (7 : Nat) (Option.some Jvm.ClassFile.FieldType.long)) ∈ lw_all := lw_g (lw_at lw_m1 190 rfl) rfl
theorem q255 : (Jvm.Cond.methodLink "RoundingAuditor" (282 : Nat) ({ cls := "RoundingAuditor", name := "isStep", desc := "(II)Z" } : Jvm.MethodName)) ∈ lw_all := lw_g (lw_at lw_m1 191 rfl) rfl
theorem q256 : (Jvm.Cond.privateMethod ({ cls := "RoundingAuditor", name := "isStep", desc := "(II)Z" } : Jvm.MethodName)) ∈ lw_tbl := lw_at lw_m1 192 rfl
theorem q257 : (Jvm.Cond.instanceMethod ({ cls := "RoundingAuditor", name := "isStep", desc := "(II)Z" } : Jvm.MethodName)) ∈ lw_all := lw_g (lw_at lw_m1 193 rfl) rfl
theorem q258 : (Jvm.Cond.code ({ cls := "RoundingAuditor", name := "isStep", desc := "(II)Z" } : Jvm.MethodName) prog_1_method_23_code (3 : Nat) (Option.some Jvm.ClassFile.FieldType.boolean)) ∈ lw_all := lw_g (lw_at lw_m1 194 rfl) rfl
theorem q259 : (Jvm.Cond.constantLong "RoundingAuditor" (286 : Nat) (4 : Int64)) ∈ lw_all := lw_g (lw_at lw_m1 195 rfl) rfl
theorem q260 : (Jvm.Cond.constantLong "RoundingAuditor" (133 : Nat) (-102 : Int64)) ∈ lw_all := lw_g (lw_at lw_m1 196 rfl) rfl
theorem q261 : (Jvm.Cond.methodLink "RoundingAuditor" (288 : Nat) ({ cls := "RoundingAuditor", name := "lose", desc := "(LRoundingAuditor$Exact;LRoundingAuditor$Tape;I)V" } : Jvm.MethodName)) ∈ lw_all := lw_g (lw_at lw_m1 197 rfl) rfl
theorem q262 : (Jvm.Cond.privateMethod ({ cls := "RoundingAuditor", name := "lose", desc := "(LRoundingAuditor$Exact;LRoundingAuditor$Tape;I)V" } : Jvm.MethodName)) ∈ lw_tbl := lw_at lw_m1 198 rfl
theorem q263 : (Jvm.Cond.instanceMethod ({ cls := "RoundingAuditor", name := "lose", desc := "(LRoundingAuditor$Exact;LRoundingAuditor$Tape;I)V" } : Jvm.MethodName)) ∈ lw_all := lw_g (lw_at lw_m1 199 rfl) rfl
theorem q264 : (Jvm.Cond.code ({ cls := "RoundingAuditor", name := "lose", desc := "(LRoundingAuditor$Exact;LRoundingAuditor$Tape;I)V" } : Jvm.MethodName) prog_1_method_26_code (4 : Nat) (Option.none : Option Jvm.ClassFile.FieldType)) ∈ lw_all := lw_g (lw_at lw_m1 200 rfl) rfl
theorem q265 : (Jvm.Cond.methodLink "RoundingAuditor" (148 : Nat) ({ cls := "RoundingAuditor$Exact", name := "clear", desc := "()V" } : Jvm.MethodName)) ∈ lw_all := lw_g (lw_at lw_m1 201 rfl) rfl
theorem q269 : (Jvm.Cond.methodLink "RoundingAuditor" (151 : Nat) ({ cls := "RoundingAuditor$Exact", name := "add", desc := "(DZ)V" } : Jvm.MethodName)) ∈ lw_all := lw_g (lw_at lw_m1 205 rfl) rfl
theorem q281 : (Jvm.Cond.methodLink "RoundingAuditor" (292 : Nat) ({ cls := "RoundingAuditor$Exact", name := "toDouble", desc := "()D" } : Jvm.MethodName)) ∈ lw_all := lw_g (lw_at lw_m1 217 rfl) rfl
theorem q315 : (Jvm.Cond.methodLink "RoundingAuditor" (295 : Nat) ({ cls := "java/lang/Double", name := "doubleToLongBits", desc := "(D)J" } : Jvm.MethodName)) ∈ lw_all := lw_g (lw_at lw_m2 11 rfl) rfl
theorem q317 : (Jvm.Cond.instanceMethod ({ cls := "RoundingAuditor", name := "story", desc := "(II)I" } : Jvm.MethodName)) ∈ lw_all := lw_g (lw_at lw_m2 13 rfl) rfl
theorem q318 : (Jvm.Cond.selects "RoundingAuditor" ({ cls := "RoundingAuditor", name := "story", desc := "(II)I" } : Jvm.MethodName) ({ cls := "RoundingAuditor", name := "story", desc := "(II)I" } : Jvm.MethodName)) ∈ lw_all := lw_g (lw_at lw_m2 14 rfl) rfl
theorem q319 : (Jvm.Cond.code ({ cls := "RoundingAuditor", name := "story", desc := "(II)I" } : Jvm.MethodName) prog_1_method_28_code (11 : Nat) (Option.some Jvm.ClassFile.FieldType.int)) ∈ lw_all := lw_g (lw_at lw_m2 15 rfl) rfl
theorem q320 : (Jvm.Cond.constantDouble "RoundingAuditor" (300 : Nat) (4611686018427387904 : UInt64)) ∈ lw_all := lw_g (lw_at lw_m2 16 rfl) rfl
theorem q321 : (Jvm.Cond.methodLink "RoundingAuditor" (92 : Nat) ({ cls := "java/lang/Math", name := "abs", desc := "(D)D" } : Jvm.MethodName)) ∈ lw_all := lw_g (lw_at lw_m2 17 rfl) rfl
theorem q327 : (Jvm.Cond.methodLink "RoundingAuditor" (302 : Nat) ({ cls := "java/lang/Math", name := "max", desc := "(DD)D" } : Jvm.MethodName)) ∈ lw_all := lw_g (lw_at lw_m2 23 rfl) rfl
theorem q332 : (Jvm.Cond.methodLink "RoundingAuditor" (304 : Nat) ({ cls := "RoundingAuditor$Exact", name := "sign", desc := "()I" } : Jvm.MethodName)) ∈ lw_all := lw_g (lw_at lw_m2 28 rfl) rfl
theorem q334 : (Jvm.Cond.instanceMethod ({ cls := "RoundingAuditor", name := "worst", desc := "(I)I" } : Jvm.MethodName)) ∈ lw_all := lw_g (lw_at lw_m2 30 rfl) rfl
theorem q335 : (Jvm.Cond.selects "RoundingAuditor" ({ cls := "RoundingAuditor", name := "worst", desc := "(I)I" } : Jvm.MethodName) ({ cls := "RoundingAuditor", name := "worst", desc := "(I)I" } : Jvm.MethodName)) ∈ lw_all := lw_g (lw_at lw_m2 31 rfl) rfl
theorem q336 : (Jvm.Cond.code ({ cls := "RoundingAuditor", name := "worst", desc := "(I)I" } : Jvm.MethodName) prog_1_method_29_code (5 : Nat) (Option.some Jvm.ClassFile.FieldType.int)) ∈ lw_all := lw_g (lw_at lw_m2 32 rfl) rfl
theorem q337 : (Jvm.Cond.methodLink "RoundingAuditor" (307 : Nat) ({ cls := "RoundingAuditor$Exact", name := "negate", desc := "()V" } : Jvm.MethodName)) ∈ lw_all := lw_g (lw_at lw_m2 33 rfl) rfl
theorem q338 : (Jvm.Cond.methodLink "RoundingAuditor" (310 : Nat) ({ cls := "RoundingAuditor$Exact", name := "compare", desc := "(LRoundingAuditor$Exact;)I" } : Jvm.MethodName)) ∈ lw_all := lw_g (lw_at lw_m2 34 rfl) rfl
theorem q343 : (Jvm.Cond.methodLink "RoundingAuditor" (314 : Nat) ({ cls := "RoundingAuditor$Exact", name := "set", desc := "(LRoundingAuditor$Exact;)V" } : Jvm.MethodName)) ∈ lw_all := lw_g (lw_at lw_m2 39 rfl) rfl
theorem q351 : (Jvm.Cond.instanceMethod ({ cls := "RoundingAuditor", name := "off", desc := "(II)I" } : Jvm.MethodName)) ∈ lw_all := lw_g (lw_at lw_m2 47 rfl) rfl
theorem q352 : (Jvm.Cond.selects "RoundingAuditor" ({ cls := "RoundingAuditor", name := "off", desc := "(II)I" } : Jvm.MethodName) ({ cls := "RoundingAuditor", name := "off", desc := "(II)I" } : Jvm.MethodName)) ∈ lw_all := lw_g (lw_at lw_m2 48 rfl) rfl
theorem q353 : (Jvm.Cond.code ({ cls := "RoundingAuditor", name := "off", desc := "(II)I" } : Jvm.MethodName) prog_1_method_30_code (5 : Nat) (Option.some Jvm.ClassFile.FieldType.int)) ∈ lw_all := lw_g (lw_at lw_m2 49 rfl) rfl
theorem q354 : (Jvm.Cond.constantLong "RoundingAuditor" (99 : Nat) (6 : Int64)) ∈ lw_all := lw_g (lw_at lw_m2 50 rfl) rfl
theorem q355 : (Jvm.Cond.constantLong "RoundingAuditor" (321 : Nat) (2 : Int64)) ∈ lw_all := lw_g (lw_at lw_m2 51 rfl) rfl
theorem q356 : (Jvm.Cond.fieldLink "RoundingAuditor" (155 : Nat) "RoundingAuditor" "TENS" "[J") ∈ lw_all := lw_g (lw_at lw_m2 52 rfl) rfl
theorem q357 : (Jvm.Cond.laysStatic "RoundingAuditor" "TENS" "[J") ∈ lw_tbl := lw_at lw_m2 53 rfl
theorem q358 : (Jvm.Cond.methodLink "RoundingAuditor" (159 : Nat) ({ cls := "RoundingAuditor$Exact", name := "times", desc := "(J)V" } : Jvm.MethodName)) ∈ lw_all := lw_g (lw_at lw_m2 54 rfl) rfl
theorem q363 : (Jvm.Cond.instanceMethod ({ cls := "RoundingAuditor", name := "parts", desc := "(II)I" } : Jvm.MethodName)) ∈ lw_all := lw_g (lw_at lw_m2 59 rfl) rfl
theorem q364 : (Jvm.Cond.selects "RoundingAuditor" ({ cls := "RoundingAuditor", name := "parts", desc := "(II)I" } : Jvm.MethodName) ({ cls := "RoundingAuditor", name := "parts", desc := "(II)I" } : Jvm.MethodName)) ∈ lw_all := lw_g (lw_at lw_m2 60 rfl) rfl
theorem q365 : (Jvm.Cond.code ({ cls := "RoundingAuditor", name := "parts", desc := "(II)I" } : Jvm.MethodName) prog_1_method_31_code (6 : Nat) (Option.some Jvm.ClassFile.FieldType.int)) ∈ lw_all := lw_g (lw_at lw_m2 61 rfl) rfl
theorem q366 : (Jvm.Cond.methodLink "RoundingAuditor" (123 : Nat) ({ cls := "java/lang/Math", name := "max", desc := "(II)I" } : Jvm.MethodName)) ∈ lw_all := lw_g (lw_at lw_m2 62 rfl) rfl
theorem q368 : (Jvm.Cond.instanceMethod ({ cls := "RoundingAuditor", name := "clear", desc := "()I" } : Jvm.MethodName)) ∈ lw_all := lw_g (lw_at lw_m2 64 rfl) rfl
theorem q369 : (Jvm.Cond.selects "RoundingAuditor" ({ cls := "RoundingAuditor", name := "clear", desc := "()I" } : Jvm.MethodName) ({ cls := "RoundingAuditor", name := "clear", desc := "()I" } : Jvm.MethodName)) ∈ lw_all := lw_g (lw_at lw_m2 65 rfl) rfl
theorem q370 : (Jvm.Cond.code ({ cls := "RoundingAuditor", name := "clear", desc := "()I" } : Jvm.MethodName) prog_1_method_32_code (2 : Nat) (Option.some Jvm.ClassFile.FieldType.int)) ∈ lw_all := lw_g (lw_at lw_m2 66 rfl) rfl
theorem q371 : (Jvm.Cond.interfaceEntry "RoundingAuditor" (323 : Nat)) ∈ lw_tbl := lw_at lw_m2 67 rfl
theorem q372 : (Jvm.Cond.methodLink "RoundingAuditor" (323 : Nat) ({ cls := "java/util/List", name := "clear", desc := "()V" } : Jvm.MethodName)) ∈ lw_all := lw_g (lw_at lw_m2 68 rfl) rfl
theorem q381 : (Jvm.Cond.instanceMethod ({ cls := "RoundingAuditor", name := "cured", desc := "(I)I" } : Jvm.MethodName)) ∈ lw_all := lw_g (lw_at lw_m2 77 rfl) rfl
theorem q382 : (Jvm.Cond.selects "RoundingAuditor" ({ cls := "RoundingAuditor", name := "cured", desc := "(I)I" } : Jvm.MethodName) ({ cls := "RoundingAuditor", name := "cured", desc := "(I)I" } : Jvm.MethodName)) ∈ lw_all := lw_g (lw_at lw_m2 78 rfl) rfl
theorem q383 : (Jvm.Cond.code ({ cls := "RoundingAuditor", name := "cured", desc := "(I)I" } : Jvm.MethodName) prog_1_method_44_code (4 : Nat) (Option.some Jvm.ClassFile.FieldType.int)) ∈ lw_all := lw_g (lw_at lw_m2 79 rfl) rfl
theorem q385 : (Jvm.Cond.instanceMethod ({ cls := "RoundingAuditor", name := "share", desc := "(I)I" } : Jvm.MethodName)) ∈ lw_all := lw_g (lw_at lw_m2 81 rfl) rfl
theorem q386 : (Jvm.Cond.selects "RoundingAuditor" ({ cls := "RoundingAuditor", name := "share", desc := "(I)I" } : Jvm.MethodName) ({ cls := "RoundingAuditor", name := "share", desc := "(I)I" } : Jvm.MethodName)) ∈ lw_all := lw_g (lw_at lw_m2 82 rfl) rfl
theorem q387 : (Jvm.Cond.code ({ cls := "RoundingAuditor", name := "share", desc := "(I)I" } : Jvm.MethodName) prog_1_method_48_code (2 : Nat) (Option.some Jvm.ClassFile.FieldType.int)) ∈ lw_all := lw_g (lw_at lw_m2 83 rfl) rfl
theorem q388 : (Jvm.Cond.constantLong "RoundingAuditor" (55 : Nat) (9 : Int64)) ∈ lw_all := lw_g (lw_at lw_m2 84 rfl) rfl
theorem q498 : (Jvm.Cond.instanceMethod ({ cls := "RoundingAuditor", name := "ledger", desc := "(IZI)I" } : Jvm.MethodName)) ∈ lw_all := lw_g (lw_at lw_m2 194 rfl) rfl
theorem q499 : (Jvm.Cond.selects "RoundingAuditor" ({ cls := "RoundingAuditor", name := "ledger", desc := "(IZI)I" } : Jvm.MethodName) ({ cls := "RoundingAuditor", name := "ledger", desc := "(IZI)I" } : Jvm.MethodName)) ∈ lw_all := lw_g (lw_at lw_m2 195 rfl) rfl
theorem q500 : (Jvm.Cond.code ({ cls := "RoundingAuditor", name := "ledger", desc := "(IZI)I" } : Jvm.MethodName) prog_1_method_4_code (5 : Nat) (Option.some Jvm.ClassFile.FieldType.int)) ∈ lw_all := lw_g (lw_at lw_m2 196 rfl) rfl
theorem q501 : (Jvm.Cond.methodLink "RoundingAuditor" (47 : Nat) ({ cls := "RoundingAuditor", name := "made", desc := "(ZI)LRoundingAuditor$Ledger;" } : Jvm.MethodName)) ∈ lw_all := lw_g (lw_at lw_m2 197 rfl) rfl
theorem q502 : (Jvm.Cond.static ({ cls := "RoundingAuditor", name := "made", desc := "(ZI)LRoundingAuditor$Ledger;" } : Jvm.MethodName)) ∈ lw_all := lw_g (lw_at lw_m2 198 rfl) rfl
theorem q503 : (Jvm.Cond.code ({ cls := "RoundingAuditor", name := "made", desc := "(ZI)LRoundingAuditor$Ledger;" } : Jvm.MethodName) prog_1_method_3_code (2 : Nat) (Option.some (Jvm.ClassFile.FieldType.object "RoundingAuditor$Ledger"))) ∈ lw_all := lw_g (lw_at lw_m2 199 rfl) rfl
theorem q504 : (Jvm.Cond.classLink "RoundingAuditor" (39 : Nat) "RoundingAuditor$Wide") ∈ lw_all := lw_g (lw_at lw_m2 200 rfl) rfl
theorem q506 : (Jvm.Cond.methodLink "RoundingAuditor" (41 : Nat) ({ cls := "RoundingAuditor$Wide", name := "<init>", desc := "(I)V" } : Jvm.MethodName)) ∈ lw_all := lw_g (lw_at lw_m2 202 rfl) rfl
theorem q530 : (Jvm.Cond.classLink "RoundingAuditor" (44 : Nat) "RoundingAuditor$Narrow") ∈ lw_all := lw_g (lw_at lw_m2 226 rfl) rfl
theorem q532 : (Jvm.Cond.methodLink "RoundingAuditor" (46 : Nat) ({ cls := "RoundingAuditor$Narrow", name := "<init>", desc := "(I)V" } : Jvm.MethodName)) ∈ lw_all := lw_g (lw_at lw_m2 228 rfl) rfl
theorem q574 : (Jvm.Cond.instanceMethod ({ cls := "RoundingAuditor", name := "set", desc := "(IIJ)I" } : Jvm.MethodName)) ∈ lw_all := lw_g (lw_at lw_m3 30 rfl) rfl
theorem q575 : (Jvm.Cond.selects "RoundingAuditor" ({ cls := "RoundingAuditor", name := "set", desc := "(IIJ)I" } : Jvm.MethodName) ({ cls := "RoundingAuditor", name := "set", desc := "(IIJ)I" } : Jvm.MethodName)) ∈ lw_all := lw_g (lw_at lw_m3 31 rfl) rfl
theorem q576 : (Jvm.Cond.code ({ cls := "RoundingAuditor", name := "set", desc := "(IIJ)I" } : Jvm.MethodName) prog_1_method_5_code (5 : Nat) (Option.some Jvm.ClassFile.FieldType.int)) ∈ lw_all := lw_g (lw_at lw_m3 32 rfl) rfl
theorem q577 : (Jvm.Cond.methodLink "RoundingAuditor" (51 : Nat) ({ cls := "RoundingAuditor$Ledger", name := "put", desc := "(IJ)Z" } : Jvm.MethodName)) ∈ lw_all := lw_g (lw_at lw_m3 33 rfl) rfl
theorem q600 : (Jvm.Cond.instanceMethod ({ cls := "RoundingAuditor", name := "book", desc := "(IIII)I" } : Jvm.MethodName)) ∈ lw_all := lw_g (lw_at lw_m3 56 rfl) rfl
theorem q601 : (Jvm.Cond.selects "RoundingAuditor" ({ cls := "RoundingAuditor", name := "book", desc := "(IIII)I" } : Jvm.MethodName) ({ cls := "RoundingAuditor", name := "book", desc := "(IIII)I" } : Jvm.MethodName)) ∈ lw_all := lw_g (lw_at lw_m3 57 rfl) rfl
theorem q602 : (Jvm.Cond.code ({ cls := "RoundingAuditor", name := "book", desc := "(IIII)I" } : Jvm.MethodName) prog_1_method_6_code (5 : Nat) (Option.some Jvm.ClassFile.FieldType.int)) ∈ lw_all := lw_g (lw_at lw_m3 58 rfl) rfl
theorem q603 : (Jvm.Cond.constantLong "RoundingAuditor" (61 : Nat) (30 : Int64)) ∈ lw_all := lw_g (lw_at lw_m3 59 rfl) rfl
theorem q604 : (Jvm.Cond.methodLink "RoundingAuditor" (63 : Nat) ({ cls := "RoundingAuditor$Ledger", name := "book", desc := "(III)V" } : Jvm.MethodName)) ∈ lw_all := lw_g (lw_at lw_m3 60 rfl) rfl
theorem q614 : (Jvm.Cond.instanceMethod ({ cls := "RoundingAuditor", name := "amount", desc := "(II)J" } : Jvm.MethodName)) ∈ lw_all := lw_g (lw_at lw_m3 70 rfl) rfl
theorem q615 : (Jvm.Cond.selects "RoundingAuditor" ({ cls := "RoundingAuditor", name := "amount", desc := "(II)J" } : Jvm.MethodName) ({ cls := "RoundingAuditor", name := "amount", desc := "(II)J" } : Jvm.MethodName)) ∈ lw_all := lw_g (lw_at lw_m3 71 rfl) rfl
theorem q616 : (Jvm.Cond.code ({ cls := "RoundingAuditor", name := "amount", desc := "(II)J" } : Jvm.MethodName) prog_1_method_7_code (4 : Nat) (Option.some Jvm.ClassFile.FieldType.long)) ∈ lw_all := lw_g (lw_at lw_m3 72 rfl) rfl
theorem q617 : (Jvm.Cond.methodLink "RoundingAuditor" (67 : Nat) ({ cls := "RoundingAuditor$Ledger", name := "at", desc := "(I)D" } : Jvm.MethodName)) ∈ lw_all := lw_g (lw_at lw_m3 73 rfl) rfl
theorem q626 : (Jvm.Cond.methodLink "RoundingAuditor" (71 : Nat) ({ cls := "RoundingAuditor$Ledger", name := "bits", desc := "(D)J" } : Jvm.MethodName)) ∈ lw_all := lw_g (lw_at lw_m3 82 rfl) rfl
theorem q639 : (Jvm.Cond.instanceMethod ({ cls := "RoundingAuditor", name := "entry", desc := "(III)I" } : Jvm.MethodName)) ∈ lw_all := lw_g (lw_at lw_m3 95 rfl) rfl
theorem q640 : (Jvm.Cond.selects "RoundingAuditor" ({ cls := "RoundingAuditor", name := "entry", desc := "(III)I" } : Jvm.MethodName) ({ cls := "RoundingAuditor", name := "entry", desc := "(III)I" } : Jvm.MethodName)) ∈ lw_all := lw_g (lw_at lw_m3 96 rfl) rfl
theorem q641 : (Jvm.Cond.code ({ cls := "RoundingAuditor", name := "entry", desc := "(III)I" } : Jvm.MethodName) prog_1_method_8_code (6 : Nat) (Option.some Jvm.ClassFile.FieldType.int)) ∈ lw_all := lw_g (lw_at lw_m3 97 rfl) rfl
theorem q642 : (Jvm.Cond.methodLink "RoundingAuditor" (75 : Nat) ({ cls := "RoundingAuditor$Ledger", name := "account", desc := "(I)I" } : Jvm.MethodName)) ∈ lw_all := lw_g (lw_at lw_m3 98 rfl) rfl
theorem q648 : (Jvm.Cond.methodLink "RoundingAuditor" (79 : Nat) ({ cls := "RoundingAuditor$Ledger", name := "day", desc := "(I)I" } : Jvm.MethodName)) ∈ lw_all := lw_g (lw_at lw_m3 104 rfl) rfl
theorem q658 : (Jvm.Cond.instanceMethod ({ cls := "RoundingAuditor", name := "about", desc := "(II)I" } : Jvm.MethodName)) ∈ lw_all := lw_g (lw_at lw_m3 114 rfl) rfl
theorem q659 : (Jvm.Cond.selects "RoundingAuditor" ({ cls := "RoundingAuditor", name := "about", desc := "(II)I" } : Jvm.MethodName) ({ cls := "RoundingAuditor", name := "about", desc := "(II)I" } : Jvm.MethodName)) ∈ lw_all := lw_g (lw_at lw_m3 115 rfl) rfl
theorem q660 : (Jvm.Cond.code ({ cls := "RoundingAuditor", name := "about", desc := "(II)I" } : Jvm.MethodName) prog_1_method_10_code (7 : Nat) (Option.some Jvm.ClassFile.FieldType.int)) ∈ lw_all := lw_g (lw_at lw_m3 116 rfl) rfl
theorem q661 : (Jvm.Cond.methodLink "RoundingAuditor" (101 : Nat) ({ cls := "RoundingAuditor$Ledger", name := "length", desc := "()I" } : Jvm.MethodName)) ∈ lw_all := lw_g (lw_at lw_m3 117 rfl) rfl
theorem q667 : (Jvm.Cond.methodLink "RoundingAuditor" (105 : Nat) ({ cls := "RoundingAuditor$Ledger", name := "isWide", desc := "()Z" } : Jvm.MethodName)) ∈ lw_all := lw_g (lw_at lw_m3 123 rfl) rfl
theorem q676 : (Jvm.Cond.methodLink "RoundingAuditor" (109 : Nat) ({ cls := "RoundingAuditor", name := "is", desc := "(LRoundingAuditor$Ledger;DI)Z" } : Jvm.MethodName)) ∈ lw_all := lw_g (lw_at lw_m3 132 rfl) rfl
theorem q677 : (Jvm.Cond.static ({ cls := "RoundingAuditor", name := "is", desc := "(LRoundingAuditor$Ledger;DI)Z" } : Jvm.MethodName)) ∈ lw_all := lw_g (lw_at lw_m3 133 rfl) rfl
theorem q678 : (Jvm.Cond.code ({ cls := "RoundingAuditor", name := "is", desc := "(LRoundingAuditor$Ledger;DI)Z" } : Jvm.MethodName) prog_1_method_9_code (5 : Nat) (Option.some Jvm.ClassFile.FieldType.boolean)) ∈ lw_all := lw_g (lw_at lw_m3 134 rfl) rfl
theorem q679 : (Jvm.Cond.methodLink "RoundingAuditor" (82 : Nat) ({ cls := "java/lang/Math", name := "copySign", desc := "(DD)D" } : Jvm.MethodName)) ∈ lw_all := lw_g (lw_at lw_m3 135 rfl) rfl
theorem q683 : (Jvm.Cond.methodLink "RoundingAuditor" (88 : Nat) ({ cls := "java/lang/Math", name := "rint", desc := "(D)D" } : Jvm.MethodName)) ∈ lw_all := lw_g (lw_at lw_m3 139 rfl) rfl
theorem q692 : (Jvm.Cond.methodLink "RoundingAuditor" (95 : Nat) ({ cls := "RoundingAuditor$Ledger", name := "least", desc := "()D" } : Jvm.MethodName)) ∈ lw_all := lw_g (lw_at lw_m3 148 rfl) rfl
theorem q707 : (Jvm.Cond.instanceMethod ({ cls := "RoundingAuditor", name := "filter", desc := "(III)I" } : Jvm.MethodName)) ∈ lw_all := lw_g (lw_at lw_m3 163 rfl) rfl
theorem q708 : (Jvm.Cond.selects "RoundingAuditor" ({ cls := "RoundingAuditor", name := "filter", desc := "(III)I" } : Jvm.MethodName) ({ cls := "RoundingAuditor", name := "filter", desc := "(III)I" } : Jvm.MethodName)) ∈ lw_all := lw_g (lw_at lw_m3 164 rfl) rfl
theorem q709 : (Jvm.Cond.code ({ cls := "RoundingAuditor", name := "filter", desc := "(III)I" } : Jvm.MethodName) prog_1_method_11_code (10 : Nat) (Option.some Jvm.ClassFile.FieldType.int)) ∈ lw_all := lw_g (lw_at lw_m3 165 rfl) rfl
theorem q710 : (Jvm.Cond.constantLong "RoundingAuditor" (113 : Nat) (-1 : Int64)) ∈ lw_all := lw_g (lw_at lw_m3 166 rfl) rfl
theorem q711 : (Jvm.Cond.methodLink "RoundingAuditor" (115 : Nat) ({ cls := "RoundingAuditor$Ledger", name := "another", desc := "(I)LRoundingAuditor$Ledger;" } : Jvm.MethodName)) ∈ lw_all := lw_g (lw_at lw_m3 167 rfl) rfl
theorem q724 : (Jvm.Cond.methodLink "RoundingAuditor" (119 : Nat) ({ cls := "RoundingAuditor$Ledger", name := "copy", desc := "(ILRoundingAuditor$Ledger;I)V" } : Jvm.MethodName)) ∈ lw_all := lw_g (lw_at lw_m3 180 rfl) rfl
theorem q740 : (Jvm.Cond.instanceMethod ({ cls := "RoundingAuditor", name := "mix", desc := "(III)I" } : Jvm.MethodName)) ∈ lw_all := lw_g (lw_at lw_m3 196 rfl) rfl
theorem q741 : (Jvm.Cond.selects "RoundingAuditor" ({ cls := "RoundingAuditor", name := "mix", desc := "(III)I" } : Jvm.MethodName) ({ cls := "RoundingAuditor", name := "mix", desc := "(III)I" } : Jvm.MethodName)) ∈ lw_all := lw_g (lw_at lw_m3 197 rfl) rfl
theorem q742 : (Jvm.Cond.code ({ cls := "RoundingAuditor", name := "mix", desc := "(III)I" } : Jvm.MethodName) prog_1_method_12_code (12 : Nat) (Option.some Jvm.ClassFile.FieldType.int)) ∈ lw_all := lw_g (lw_at lw_m3 198 rfl) rfl
theorem q747 : (Jvm.Cond.instanceMethod ({ cls := "RoundingAuditor", name := "same", desc := "(II)I" } : Jvm.MethodName)) ∈ lw_all := lw_g (lw_at lw_m3 203 rfl) rfl
theorem q748 : (Jvm.Cond.selects "RoundingAuditor" ({ cls := "RoundingAuditor", name := "same", desc := "(II)I" } : Jvm.MethodName) ({ cls := "RoundingAuditor", name := "same", desc := "(II)I" } : Jvm.MethodName)) ∈ lw_all := lw_g (lw_at lw_m3 204 rfl) rfl
theorem q749 : (Jvm.Cond.code ({ cls := "RoundingAuditor", name := "same", desc := "(II)I" } : Jvm.MethodName) prog_1_method_13_code (6 : Nat) (Option.some Jvm.ClassFile.FieldType.int)) ∈ lw_all := lw_g (lw_at lw_m3 205 rfl) rfl
theorem q750 : (Jvm.Cond.methodLink "RoundingAuditor" (127 : Nat) ({ cls := "RoundingAuditor$Ledger", name := "isLike", desc := "(LRoundingAuditor$Ledger;)Z" } : Jvm.MethodName)) ∈ lw_all := lw_g (lw_at lw_m3 206 rfl) rfl
theorem q776 : (Jvm.Cond.instanceMethod ({ cls := "RoundingAuditor", name := "worked", desc := "(IIII)J" } : Jvm.MethodName)) ∈ lw_all := lw_g (lw_at lw_m3 232 rfl) rfl
theorem q777 : (Jvm.Cond.selects "RoundingAuditor" ({ cls := "RoundingAuditor", name := "worked", desc := "(IIII)J" } : Jvm.MethodName) ({ cls := "RoundingAuditor", name := "worked", desc := "(IIII)J" } : Jvm.MethodName)) ∈ lw_all := lw_g (lw_at lw_m3 233 rfl) rfl
theorem q778 : (Jvm.Cond.code ({ cls := "RoundingAuditor", name := "worked", desc := "(IIII)J" } : Jvm.MethodName) prog_1_method_14_code (10 : Nat) (Option.some Jvm.ClassFile.FieldType.long)) ∈ lw_all := lw_g (lw_at lw_m3 234 rfl) rfl
theorem q779 : (Jvm.Cond.constantLong "RoundingAuditor" (131 : Nat) (8 : Int64)) ∈ lw_all := lw_g (lw_at lw_m3 235 rfl) rfl
theorem q780 : (Jvm.Cond.classLink "RoundingAuditor" (135 : Nat) "java/lang/ArithmeticException") ∈ lw_all := lw_g (lw_at lw_m3 236 rfl) rfl
theorem q781 : (Jvm.Cond.methodLink "RoundingAuditor" (137 : Nat) ({ cls := "java/lang/ArithmeticException", name := "<init>", desc := "()V" } : Jvm.MethodName)) ∈ lw_all := lw_g (lw_at lw_m3 237 rfl) rfl
theorem q785 : (Jvm.Cond.methodLink "RoundingAuditor" (138 : Nat) ({ cls := "RoundingAuditor$Ledger", name := "worked", desc := "(DDI)D" } : Jvm.MethodName)) ∈ lw_all := lw_g (lw_at lw_m4 1 rfl) rfl
theorem q864 : (Jvm.Cond.instanceMethod ({ cls := "RoundingAuditor", name := "whole", desc := "(III)J" } : Jvm.MethodName)) ∈ lw_all := lw_g (lw_at lw_m4 80 rfl) rfl
theorem q865 : (Jvm.Cond.selects "RoundingAuditor" ({ cls := "RoundingAuditor", name := "whole", desc := "(III)J" } : Jvm.MethodName) ({ cls := "RoundingAuditor", name := "whole", desc := "(III)J" } : Jvm.MethodName)) ∈ lw_all := lw_g (lw_at lw_m4 81 rfl) rfl
theorem q866 : (Jvm.Cond.code ({ cls := "RoundingAuditor", name := "whole", desc := "(III)J" } : Jvm.MethodName) prog_1_method_15_code (5 : Nat) (Option.some Jvm.ClassFile.FieldType.long)) ∈ lw_all := lw_g (lw_at lw_m4 82 rfl) rfl
theorem q867 : (Jvm.Cond.constantLong "RoundingAuditor" (142 : Nat) (3 : Int64)) ∈ lw_all := lw_g (lw_at lw_m4 83 rfl) rfl
theorem q868 : (Jvm.Cond.methodLink "RoundingAuditor" (144 : Nat) ({ cls := "RoundingAuditor$Ledger", name := "whole", desc := "(DI)J" } : Jvm.MethodName)) ∈ lw_all := lw_g (lw_at lw_m4 84 rfl) rfl
theorem q881 : (Jvm.Cond.instanceMethod ({ cls := "RoundingAuditor", name := "units", desc := "(III)J" } : Jvm.MethodName)) ∈ lw_all := lw_g (lw_at lw_m4 97 rfl) rfl
theorem q882 : (Jvm.Cond.selects "RoundingAuditor" ({ cls := "RoundingAuditor", name := "units", desc := "(III)J" } : Jvm.MethodName) ({ cls := "RoundingAuditor", name := "units", desc := "(III)J" } : Jvm.MethodName)) ∈ lw_all := lw_g (lw_at lw_m4 98 rfl) rfl
theorem q883 : (Jvm.Cond.codeWith ({ cls := "RoundingAuditor", name := "units", desc := "(III)J" } : Jvm.MethodName) prog_1_method_17_code (7 : Nat) (Option.some Jvm.ClassFile.FieldType.long) [((28 : Nat), (35 : Nat), (36 : Nat), (164 : Nat))]) ∈ lw_all := lw_g (lw_at lw_m4 99 rfl) rfl
theorem q884 : (Jvm.Cond.classLink "RoundingAuditor" (164 : Nat) "RoundingAuditor$Far") ∈ lw_all := lw_g (lw_at lw_m4 100 rfl) rfl
theorem q885 : (Jvm.Cond.methodLink "RoundingAuditor" (173 : Nat) ({ cls := "RoundingAuditor", name := "unitsOf", desc := "(DI)J" } : Jvm.MethodName)) ∈ lw_all := lw_g (lw_at lw_m4 101 rfl) rfl
theorem q886 : (Jvm.Cond.privateMethod ({ cls := "RoundingAuditor", name := "unitsOf", desc := "(DI)J" } : Jvm.MethodName)) ∈ lw_tbl := lw_at lw_m4 102 rfl
theorem q887 : (Jvm.Cond.instanceMethod ({ cls := "RoundingAuditor", name := "unitsOf", desc := "(DI)J" } : Jvm.MethodName)) ∈ lw_all := lw_g (lw_at lw_m4 103 rfl) rfl
theorem q888 : (Jvm.Cond.code ({ cls := "RoundingAuditor", name := "unitsOf", desc := "(DI)J" } : Jvm.MethodName) prog_1_method_16_code (6 : Nat) (Option.some Jvm.ClassFile.FieldType.long)) ∈ lw_all := lw_g (lw_at lw_m4 104 rfl) rfl
theorem q889 : (Jvm.Cond.methodLink "RoundingAuditor" (163 : Nat) ({ cls := "RoundingAuditor$Exact", name := "length", desc := "()I" } : Jvm.MethodName)) ∈ lw_all := lw_g (lw_at lw_m4 105 rfl) rfl
theorem q898 : (Jvm.Cond.methodLink "RoundingAuditor" (166 : Nat) ({ cls := "RoundingAuditor$Far", name := "<init>", desc := "()V" } : Jvm.MethodName)) ∈ lw_all := lw_g (lw_at lw_m4 114 rfl) rfl
theorem q909 : (Jvm.Cond.methodLink "RoundingAuditor" (167 : Nat) ({ cls := "RoundingAuditor$Exact", name := "rounded", desc := "(I)J" } : Jvm.MethodName)) ∈ lw_all := lw_g (lw_at lw_m4 125 rfl) rfl
theorem q910 : (Jvm.Cond.constantLong "RoundingAuditor" (171 : Nat) (1000000000000000 : Int64)) ∈ lw_all := lw_g (lw_at lw_m4 126 rfl) rfl
theorem q911 : (Jvm.Cond.constantLong "RoundingAuditor" (176 : Nat) (-105 : Int64)) ∈ lw_all := lw_g (lw_at lw_m4 127 rfl) rfl
theorem q916 : (Jvm.Cond.instanceMethod ({ cls := "RoundingAuditor", name := "give", desc := "(II)I" } : Jvm.MethodName)) ∈ lw_all := lw_g (lw_at lw_m4 132 rfl) rfl
theorem q917 : (Jvm.Cond.selects "RoundingAuditor" ({ cls := "RoundingAuditor", name := "give", desc := "(II)I" } : Jvm.MethodName) ({ cls := "RoundingAuditor", name := "give", desc := "(II)I" } : Jvm.MethodName)) ∈ lw_all := lw_g (lw_at lw_m4 133 rfl) rfl
theorem q918 : (Jvm.Cond.code ({ cls := "RoundingAuditor", name := "give", desc := "(II)I" } : Jvm.MethodName) prog_1_method_20_code (6 : Nat) (Option.some Jvm.ClassFile.FieldType.int)) ∈ lw_all := lw_g (lw_at lw_m4 134 rfl) rfl
theorem q919 : (Jvm.Cond.methodLink "RoundingAuditor" (217 : Nat) ({ cls := "RoundingAuditor$Ledger", name := "give", desc := "(I)Z" } : Jvm.MethodName)) ∈ lw_all := lw_g (lw_at lw_m4 135 rfl) rfl
theorem q925 : (Jvm.Cond.methodLink "RoundingAuditor" (221 : Nat) ({ cls := "RoundingAuditor$Ledger", name := "givenCount", desc := "()I" } : Jvm.MethodName)) ∈ lw_all := lw_g (lw_at lw_m4 141 rfl) rfl
theorem q935 : (Jvm.Cond.instanceMethod ({ cls := "RoundingAuditor", name := "run", desc := "(III)I" } : Jvm.MethodName)) ∈ lw_all := lw_g (lw_at lw_m4 151 rfl) rfl
theorem q936 : (Jvm.Cond.selects "RoundingAuditor" ({ cls := "RoundingAuditor", name := "run", desc := "(III)I" } : Jvm.MethodName) ({ cls := "RoundingAuditor", name := "run", desc := "(III)I" } : Jvm.MethodName)) ∈ lw_all := lw_g (lw_at lw_m4 152 rfl) rfl
theorem q937 : (Jvm.Cond.codeWith ({ cls := "RoundingAuditor", name := "run", desc := "(III)I" } : Jvm.MethodName) prog_1_method_21_code (8 : Nat) (Option.some Jvm.ClassFile.FieldType.int) [((118 : Nat), (151 : Nat), (154 : Nat), (164 : Nat))]) ∈ lw_all := lw_g (lw_at lw_m4 153 rfl) rfl
theorem q938 : (Jvm.Cond.constantLong "RoundingAuditor" (224 : Nat) (13 : Int64)) ∈ lw_all := lw_g (lw_at lw_m4 154 rfl) rfl
theorem q939 : (Jvm.Cond.constantLong "RoundingAuditor" (226 : Nat) (60 : Int64)) ∈ lw_all := lw_g (lw_at lw_m4 155 rfl) rfl
theorem q941 : (Jvm.Cond.methodLink "RoundingAuditor" (230 : Nat) ({ cls := "RoundingAuditor$Tape", name := "<init>", desc := "(ZII)V" } : Jvm.MethodName)) ∈ lw_all := lw_g (lw_at lw_m4 157 rfl) rfl
theorem q947 : (Jvm.Cond.fieldLinkNest "RoundingAuditor" (318 : Nat) "RoundingAuditor$Tape" "way" "I" "RoundingAuditor") ∈ lw_tbl := lw_at lw_m4 163 rfl
theorem q949 : (Jvm.Cond.fieldLinkNest "RoundingAuditor" (272 : Nat) "RoundingAuditor$Tape" "lefts" "[D" "RoundingAuditor") ∈ lw_tbl := lw_at lw_m4 165 rfl
theorem q951 : (Jvm.Cond.fieldLinkNest "RoundingAuditor" (276 : Nat) "RoundingAuditor$Tape" "rights" "[D" "RoundingAuditor") ∈ lw_tbl := lw_at lw_m4 167 rfl
theorem q953 : (Jvm.Cond.fieldLinkNest "RoundingAuditor" (279 : Nat) "RoundingAuditor$Tape" "results" "[D" "RoundingAuditor") ∈ lw_tbl := lw_at lw_m4 169 rfl
theorem q955 : (Jvm.Cond.fieldLinkNest "RoundingAuditor" (265 : Nat) "RoundingAuditor$Tape" "count" "I" "RoundingAuditor") ∈ lw_tbl := lw_at lw_m4 171 rfl
theorem q956 : (Jvm.Cond.fieldLinkNest "RoundingAuditor" (247 : Nat) "RoundingAuditor$Tape" "total" "D" "RoundingAuditor") ∈ lw_tbl := lw_at lw_m4 172 rfl
theorem q972 : (Jvm.Cond.methodLink "RoundingAuditor" (233 : Nat) ({ cls := "RoundingAuditor", name := "unitTotal", desc := "(LRoundingAuditor$Ledger;I)D" } : Jvm.MethodName)) ∈ lw_all := lw_g (lw_at lw_m4 188 rfl) rfl
theorem q973 : (Jvm.Cond.privateMethod ({ cls := "RoundingAuditor", name := "unitTotal", desc := "(LRoundingAuditor$Ledger;I)D" } : Jvm.MethodName)) ∈ lw_tbl := lw_at lw_m4 189 rfl
theorem q974 : (Jvm.Cond.instanceMethod ({ cls := "RoundingAuditor", name := "unitTotal", desc := "(LRoundingAuditor$Ledger;I)D" } : Jvm.MethodName)) ∈ lw_all := lw_g (lw_at lw_m4 190 rfl) rfl
theorem q975 : (Jvm.Cond.code ({ cls := "RoundingAuditor", name := "unitTotal", desc := "(LRoundingAuditor$Ledger;I)D" } : Jvm.MethodName) prog_1_method_19_code (7 : Nat) (Option.some Jvm.ClassFile.FieldType.double)) ∈ lw_all := lw_g (lw_at lw_m4 191 rfl) rfl
theorem q976 : (Jvm.Cond.methodLink "RoundingAuditor" (237 : Nat) ({ cls := "RoundingAuditor", name := "wayOf", desc := "(II)LRoundingAuditor$Way;" } : Jvm.MethodName)) ∈ lw_all := lw_g (lw_at lw_m4 192 rfl) rfl
theorem q977 : (Jvm.Cond.static ({ cls := "RoundingAuditor", name := "wayOf", desc := "(II)LRoundingAuditor$Way;" } : Jvm.MethodName)) ∈ lw_all := lw_g (lw_at lw_m4 193 rfl) rfl
theorem q978 : (Jvm.Cond.code ({ cls := "RoundingAuditor", name := "wayOf", desc := "(II)LRoundingAuditor$Way;" } : Jvm.MethodName) prog_1_method_18_code (2 : Nat) (Option.some (Jvm.ClassFile.FieldType.object "RoundingAuditor$Way"))) ∈ lw_all := lw_g (lw_at lw_m4 194 rfl) rfl
theorem q979 : (Jvm.Cond.classLink "RoundingAuditor" (178 : Nat) "RoundingAuditor$FromFirst") ∈ lw_all := lw_g (lw_at lw_m4 195 rfl) rfl
theorem q981 : (Jvm.Cond.methodLinkNest "RoundingAuditor" (180 : Nat) ({ cls := "RoundingAuditor$FromFirst", name := "<init>", desc := "()V" } : Jvm.MethodName) "RoundingAuditor") ∈ lw_tbl := lw_at lw_m4 197 rfl
theorem q1003 : (Jvm.Cond.classLink "RoundingAuditor" (181 : Nat) "RoundingAuditor$FromLast") ∈ lw_all := lw_g (lw_at lw_m4 219 rfl) rfl
theorem q1005 : (Jvm.Cond.methodLinkNest "RoundingAuditor" (183 : Nat) ({ cls := "RoundingAuditor$FromLast", name := "<init>", desc := "()V" } : Jvm.MethodName) "RoundingAuditor") ∈ lw_tbl := lw_at lw_m4 221 rfl
theorem q1011 : (Jvm.Cond.classLink "RoundingAuditor" (184 : Nat) "RoundingAuditor$Rising") ∈ lw_all := lw_g (lw_at lw_m4 227 rfl) rfl
theorem q1013 : (Jvm.Cond.methodLinkNest "RoundingAuditor" (186 : Nat) ({ cls := "RoundingAuditor$Rising", name := "<init>", desc := "()V" } : Jvm.MethodName) "RoundingAuditor") ∈ lw_tbl := lw_at lw_m4 229 rfl
theorem q1022 : (Jvm.Cond.classLink "RoundingAuditor" (187 : Nat) "RoundingAuditor$Falling") ∈ lw_all := lw_g (lw_at lw_m4 238 rfl) rfl
theorem q1024 : (Jvm.Cond.methodLinkNest "RoundingAuditor" (189 : Nat) ({ cls := "RoundingAuditor$Falling", name := "<init>", desc := "()V" } : Jvm.MethodName) "RoundingAuditor") ∈ lw_tbl := lw_at lw_m5 0 rfl
theorem q1030 : (Jvm.Cond.classLink "RoundingAuditor" (190 : Nat) "RoundingAuditor$ByAccount") ∈ lw_all := lw_g (lw_at lw_m5 6 rfl) rfl
theorem q1032 : (Jvm.Cond.methodLinkNest "RoundingAuditor" (192 : Nat) ({ cls := "RoundingAuditor$ByAccount", name := "<init>", desc := "()V" } : Jvm.MethodName) "RoundingAuditor") ∈ lw_tbl := lw_at lw_m5 8 rfl
theorem q1038 : (Jvm.Cond.classLink "RoundingAuditor" (193 : Nat) "RoundingAuditor$ByDay") ∈ lw_all := lw_g (lw_at lw_m5 14 rfl) rfl
theorem q1040 : (Jvm.Cond.methodLinkNest "RoundingAuditor" (195 : Nat) ({ cls := "RoundingAuditor$ByDay", name := "<init>", desc := "()V" } : Jvm.MethodName) "RoundingAuditor") ∈ lw_tbl := lw_at lw_m5 16 rfl
theorem q1046 : (Jvm.Cond.classLink "RoundingAuditor" (196 : Nat) "RoundingAuditor$Given") ∈ lw_all := lw_g (lw_at lw_m5 22 rfl) rfl
theorem q1048 : (Jvm.Cond.methodLinkNest "RoundingAuditor" (198 : Nat) ({ cls := "RoundingAuditor$Given", name := "<init>", desc := "()V" } : Jvm.MethodName) "RoundingAuditor") ∈ lw_tbl := lw_at lw_m5 24 rfl
theorem q1054 : (Jvm.Cond.classLink "RoundingAuditor" (199 : Nat) "RoundingAuditor$Inside") ∈ lw_all := lw_g (lw_at lw_m5 30 rfl) rfl
theorem q1056 : (Jvm.Cond.methodLinkNest "RoundingAuditor" (201 : Nat) ({ cls := "RoundingAuditor$Inside", name := "<init>", desc := "()V" } : Jvm.MethodName) "RoundingAuditor") ∈ lw_tbl := lw_at lw_m5 32 rfl
theorem q1062 : (Jvm.Cond.classLink "RoundingAuditor" (202 : Nat) "RoundingAuditor$Halves") ∈ lw_all := lw_g (lw_at lw_m5 38 rfl) rfl
theorem q1064 : (Jvm.Cond.methodLinkNest "RoundingAuditor" (204 : Nat) ({ cls := "RoundingAuditor$Halves", name := "<init>", desc := "()V" } : Jvm.MethodName) "RoundingAuditor") ∈ lw_tbl := lw_at lw_m5 40 rfl
theorem q1069 : (Jvm.Cond.classLink "RoundingAuditor" (205 : Nat) "RoundingAuditor$Blocks") ∈ lw_all := lw_g (lw_at lw_m5 45 rfl) rfl
theorem q1071 : (Jvm.Cond.methodLink "RoundingAuditor" (207 : Nat) ({ cls := "RoundingAuditor$Blocks", name := "<init>", desc := "(I)V" } : Jvm.MethodName)) ∈ lw_all := lw_g (lw_at lw_m5 47 rfl) rfl
theorem q1082 : (Jvm.Cond.classLink "RoundingAuditor" (208 : Nat) "RoundingAuditor$Queue") ∈ lw_all := lw_g (lw_at lw_m5 58 rfl) rfl
theorem q1084 : (Jvm.Cond.methodLinkNest "RoundingAuditor" (210 : Nat) ({ cls := "RoundingAuditor$Queue", name := "<init>", desc := "()V" } : Jvm.MethodName) "RoundingAuditor") ∈ lw_tbl := lw_at lw_m5 60 rfl
theorem q1096 : (Jvm.Cond.classLink "RoundingAuditor" (211 : Nat) "RoundingAuditor$Carried") ∈ lw_all := lw_g (lw_at lw_m5 72 rfl) rfl
theorem q1098 : (Jvm.Cond.methodLinkNest "RoundingAuditor" (213 : Nat) ({ cls := "RoundingAuditor$Carried", name := "<init>", desc := "()V" } : Jvm.MethodName) "RoundingAuditor") ∈ lw_tbl := lw_at lw_m5 74 rfl
theorem q1103 : (Jvm.Cond.classLink "RoundingAuditor" (214 : Nat) "RoundingAuditor$CarriedApart") ∈ lw_all := lw_g (lw_at lw_m5 79 rfl) rfl
theorem q1105 : (Jvm.Cond.methodLinkNest "RoundingAuditor" (216 : Nat) ({ cls := "RoundingAuditor$CarriedApart", name := "<init>", desc := "()V" } : Jvm.MethodName) "RoundingAuditor") ∈ lw_tbl := lw_at lw_m5 81 rfl
theorem q1110 : (Jvm.Cond.methodLink "RoundingAuditor" (241 : Nat) ({ cls := "RoundingAuditor$Way", name := "total", desc := "(LRoundingAuditor$Ledger;LRoundingAuditor$Tape;)D" } : Jvm.MethodName)) ∈ lw_all := lw_g (lw_at lw_m5 86 rfl) rfl
theorem q1294 : (Jvm.Cond.interfaceEntry "RoundingAuditor" (255 : Nat)) ∈ lw_tbl := lw_at lw_m6 30 rfl
theorem q1295 : (Jvm.Cond.methodLink "RoundingAuditor" (255 : Nat) ({ cls := "java/util/List", name := "add", desc := "(Ljava/lang/Object;)Z" } : Jvm.MethodName)) ∈ lw_all := lw_g (lw_at lw_m6 31 rfl) rfl
theorem q1329 : (Jvm.Cond.selects "RoundingAuditor" ({ cls := "java/lang/Object", name := "getClass", desc := "()Ljava/lang/Class;" } : Jvm.MethodName) ({ cls := "java/lang/Object", name := "getClass", desc := "()Ljava/lang/Class;" } : Jvm.MethodName)) ∈ lw_all := lw_g (lw_at lw_m6 65 rfl) rfl
theorem q1370 : (Jvm.Cond.instanceMethod ({ cls := "RoundingAuditor", name := "compare", desc := "(IJ)I" } : Jvm.MethodName)) ∈ lw_all := lw_g (lw_at lw_m6 106 rfl) rfl
theorem q1371 : (Jvm.Cond.selects "RoundingAuditor" ({ cls := "RoundingAuditor", name := "compare", desc := "(IJ)I" } : Jvm.MethodName) ({ cls := "RoundingAuditor", name := "compare", desc := "(IJ)I" } : Jvm.MethodName)) ∈ lw_all := lw_g (lw_at lw_m6 107 rfl) rfl
theorem q1372 : (Jvm.Cond.code ({ cls := "RoundingAuditor", name := "compare", desc := "(IJ)I" } : Jvm.MethodName) prog_1_method_34_code (5 : Nat) (Option.some Jvm.ClassFile.FieldType.int)) ∈ lw_all := lw_g (lw_at lw_m6 108 rfl) rfl
theorem q1373 : (Jvm.Cond.constantLong "RoundingAuditor" (324 : Nat) (9223372036854775807 : Int64)) ∈ lw_all := lw_g (lw_at lw_m6 109 rfl) rfl
theorem q1374 : (Jvm.Cond.constantDouble "RoundingAuditor" (326 : Nat) (5102578377810771968 : UInt64)) ∈ lw_all := lw_g (lw_at lw_m6 110 rfl) rfl
theorem q1375 : (Jvm.Cond.methodLink "RoundingAuditor" (328 : Nat) ({ cls := "RoundingAuditor", name := "sum", desc := "(LRoundingAuditor$Exact;LRoundingAuditor$Ledger;II)V" } : Jvm.MethodName)) ∈ lw_all := lw_g (lw_at lw_m6 111 rfl) rfl
theorem q1376 : (Jvm.Cond.static ({ cls := "RoundingAuditor", name := "sum", desc := "(LRoundingAuditor$Exact;LRoundingAuditor$Ledger;II)V" } : Jvm.MethodName)) ∈ lw_all := lw_g (lw_at lw_m6 112 rfl) rfl
theorem q1377 : (Jvm.Cond.code ({ cls := "RoundingAuditor", name := "sum", desc := "(LRoundingAuditor$Exact;LRoundingAuditor$Ledger;II)V" } : Jvm.MethodName) prog_1_method_33_code (5 : Nat) (Option.none : Option Jvm.ClassFile.FieldType)) ∈ lw_all := lw_g (lw_at lw_m6 113 rfl) rfl
theorem q1378 : (Jvm.Cond.methodLink "RoundingAuditor" (332 : Nat) ({ cls := "java/lang/Double", name := "longBitsToDouble", desc := "(J)D" } : Jvm.MethodName)) ∈ lw_all := lw_g (lw_at lw_m6 114 rfl) rfl
theorem q1383 : (Jvm.Cond.instanceMethod ({ cls := "RoundingAuditor", name := "rounded", desc := "(I)J" } : Jvm.MethodName)) ∈ lw_all := lw_g (lw_at lw_m6 119 rfl) rfl
theorem q1384 : (Jvm.Cond.selects "RoundingAuditor" ({ cls := "RoundingAuditor", name := "rounded", desc := "(I)J" } : Jvm.MethodName) ({ cls := "RoundingAuditor", name := "rounded", desc := "(I)J" } : Jvm.MethodName)) ∈ lw_all := lw_g (lw_at lw_m6 120 rfl) rfl
theorem q1385 : (Jvm.Cond.code ({ cls := "RoundingAuditor", name := "rounded", desc := "(I)J" } : Jvm.MethodName) prog_1_method_36_code (3 : Nat) (Option.some Jvm.ClassFile.FieldType.long)) ∈ lw_all := lw_g (lw_at lw_m6 121 rfl) rfl
theorem q1386 : (Jvm.Cond.methodLink "RoundingAuditor" (340 : Nat) ({ cls := "RoundingAuditor", name := "roundedOf", desc := "(LRoundingAuditor$Ledger;)D" } : Jvm.MethodName)) ∈ lw_all := lw_g (lw_at lw_m6 122 rfl) rfl
theorem q1387 : (Jvm.Cond.privateMethod ({ cls := "RoundingAuditor", name := "roundedOf", desc := "(LRoundingAuditor$Ledger;)D" } : Jvm.MethodName)) ∈ lw_tbl := lw_at lw_m6 123 rfl
theorem q1388 : (Jvm.Cond.instanceMethod ({ cls := "RoundingAuditor", name := "roundedOf", desc := "(LRoundingAuditor$Ledger;)D" } : Jvm.MethodName)) ∈ lw_all := lw_g (lw_at lw_m6 124 rfl) rfl
theorem q1389 : (Jvm.Cond.code ({ cls := "RoundingAuditor", name := "roundedOf", desc := "(LRoundingAuditor$Ledger;)D" } : Jvm.MethodName) prog_1_method_35_code (2 : Nat) (Option.some Jvm.ClassFile.FieldType.double)) ∈ lw_all := lw_g (lw_at lw_m6 125 rfl) rfl
theorem q1390 : (Jvm.Cond.methodLink "RoundingAuditor" (336 : Nat) ({ cls := "RoundingAuditor$Ledger", name := "nearest", desc := "(LRoundingAuditor$Exact;)D" } : Jvm.MethodName)) ∈ lw_all := lw_g (lw_at lw_m6 126 rfl) rfl
theorem q1413 : (Jvm.Cond.instanceMethod ({ cls := "RoundingAuditor", name := "word", desc := "(II)I" } : Jvm.MethodName)) ∈ lw_all := lw_g (lw_at lw_m6 149 rfl) rfl
theorem q1414 : (Jvm.Cond.selects "RoundingAuditor" ({ cls := "RoundingAuditor", name := "word", desc := "(II)I" } : Jvm.MethodName) ({ cls := "RoundingAuditor", name := "word", desc := "(II)I" } : Jvm.MethodName)) ∈ lw_all := lw_g (lw_at lw_m6 150 rfl) rfl
theorem q1415 : (Jvm.Cond.code ({ cls := "RoundingAuditor", name := "word", desc := "(II)I" } : Jvm.MethodName) prog_1_method_37_code (4 : Nat) (Option.some Jvm.ClassFile.FieldType.int)) ∈ lw_all := lw_g (lw_at lw_m6 151 rfl) rfl
theorem q1416 : (Jvm.Cond.constantLong "RoundingAuditor" (344 : Nat) (39 : Int64)) ∈ lw_all := lw_g (lw_at lw_m6 152 rfl) rfl
theorem q1417 : (Jvm.Cond.methodLink "RoundingAuditor" (346 : Nat) ({ cls := "RoundingAuditor$Exact", name := "word", desc := "(I)I" } : Jvm.MethodName)) ∈ lw_all := lw_g (lw_at lw_m6 153 rfl) rfl
theorem q1425 : (Jvm.Cond.instanceMethod ({ cls := "RoundingAuditor", name := "extreme", desc := "(IZ)J" } : Jvm.MethodName)) ∈ lw_all := lw_g (lw_at lw_m6 161 rfl) rfl
theorem q1426 : (Jvm.Cond.selects "RoundingAuditor" ({ cls := "RoundingAuditor", name := "extreme", desc := "(IZ)J" } : Jvm.MethodName) ({ cls := "RoundingAuditor", name := "extreme", desc := "(IZ)J" } : Jvm.MethodName)) ∈ lw_all := lw_g (lw_at lw_m6 162 rfl) rfl
theorem q1427 : (Jvm.Cond.code ({ cls := "RoundingAuditor", name := "extreme", desc := "(IZ)J" } : Jvm.MethodName) prog_1_method_38_code (5 : Nat) (Option.some Jvm.ClassFile.FieldType.long)) ∈ lw_all := lw_g (lw_at lw_m6 163 rfl) rfl
theorem q1428 : (Jvm.Cond.constantLong "RoundingAuditor" (349 : Nat) (-104 : Int64)) ∈ lw_all := lw_g (lw_at lw_m6 164 rfl) rfl
theorem q1429 : (Jvm.Cond.classLink "RoundingAuditor" (351 : Nat) "RoundingAuditor$Orders") ∈ lw_all := lw_g (lw_at lw_m6 165 rfl) rfl
theorem q1431 : (Jvm.Cond.methodLink "RoundingAuditor" (353 : Nat) ({ cls := "RoundingAuditor$Orders", name := "<init>", desc := "(LRoundingAuditor$Ledger;D)V" } : Jvm.MethodName)) ∈ lw_all := lw_g (lw_at lw_m6 167 rfl) rfl
theorem q1440 : (Jvm.Cond.fieldLinkNest "RoundingAuditor" (363 : Nat) "RoundingAuditor$Orders" "least" "D" "RoundingAuditor") ∈ lw_tbl := lw_at lw_m6 176 rfl
theorem q1442 : (Jvm.Cond.fieldLinkNest "RoundingAuditor" (360 : Nat) "RoundingAuditor$Orders" "greatest" "D" "RoundingAuditor") ∈ lw_tbl := lw_at lw_m6 178 rfl
theorem q1446 : (Jvm.Cond.fieldLinkNest "RoundingAuditor" (365 : Nat) "RoundingAuditor$Orders" "isReached" "Z" "RoundingAuditor") ∈ lw_tbl := lw_at lw_m6 182 rfl
theorem q1464 : (Jvm.Cond.methodLink "RoundingAuditor" (356 : Nat) ({ cls := "RoundingAuditor$Orders", name := "go", desc := "(ID)V" } : Jvm.MethodName)) ∈ lw_all := lw_g (lw_at lw_m6 200 rfl) rfl
theorem q1476 : (Jvm.Cond.instanceMethod ({ cls := "RoundingAuditor", name := "reach", desc := "(I)I" } : Jvm.MethodName)) ∈ lw_all := lw_g (lw_at lw_m6 212 rfl) rfl
theorem q1477 : (Jvm.Cond.selects "RoundingAuditor" ({ cls := "RoundingAuditor", name := "reach", desc := "(I)I" } : Jvm.MethodName) ({ cls := "RoundingAuditor", name := "reach", desc := "(I)I" } : Jvm.MethodName)) ∈ lw_all := lw_g (lw_at lw_m6 213 rfl) rfl
theorem q1478 : (Jvm.Cond.code ({ cls := "RoundingAuditor", name := "reach", desc := "(I)I" } : Jvm.MethodName) prog_1_method_39_code (4 : Nat) (Option.some Jvm.ClassFile.FieldType.int)) ∈ lw_all := lw_g (lw_at lw_m6 214 rfl) rfl
theorem q1483 : (Jvm.Cond.instanceMethod ({ cls := "RoundingAuditor", name := "cure", desc := "(I)I" } : Jvm.MethodName)) ∈ lw_all := lw_g (lw_at lw_m6 219 rfl) rfl
theorem q1484 : (Jvm.Cond.selects "RoundingAuditor" ({ cls := "RoundingAuditor", name := "cure", desc := "(I)I" } : Jvm.MethodName) ({ cls := "RoundingAuditor", name := "cure", desc := "(I)I" } : Jvm.MethodName)) ∈ lw_all := lw_g (lw_at lw_m6 220 rfl) rfl
theorem q1485 : (Jvm.Cond.code ({ cls := "RoundingAuditor", name := "cure", desc := "(I)I" } : Jvm.MethodName) prog_1_method_43_code (8 : Nat) (Option.some Jvm.ClassFile.FieldType.int)) ∈ lw_all := lw_g (lw_at lw_m6 221 rfl) rfl
theorem q1486 : (Jvm.Cond.methodLink "RoundingAuditor" (374 : Nat) ({ cls := "RoundingAuditor", name := "isAhead", desc := "(II)Z" } : Jvm.MethodName)) ∈ lw_all := lw_g (lw_at lw_m6 222 rfl) rfl
theorem q1487 : (Jvm.Cond.static ({ cls := "RoundingAuditor", name := "isAhead", desc := "(II)Z" } : Jvm.MethodName)) ∈ lw_all := lw_g (lw_at lw_m6 223 rfl) rfl
theorem q1488 : (Jvm.Cond.code ({ cls := "RoundingAuditor", name := "isAhead", desc := "(II)Z" } : Jvm.MethodName) prog_1_method_42_code (5 : Nat) (Option.some Jvm.ClassFile.FieldType.boolean)) ∈ lw_all := lw_g (lw_at lw_m6 224 rfl) rfl
theorem q1489 : (Jvm.Cond.methodLink "RoundingAuditor" (371 : Nat) ({ cls := "RoundingAuditor", name := "many", desc := "(I)I" } : Jvm.MethodName)) ∈ lw_all := lw_g (lw_at lw_m6 225 rfl) rfl
theorem q1490 : (Jvm.Cond.static ({ cls := "RoundingAuditor", name := "many", desc := "(I)I" } : Jvm.MethodName)) ∈ lw_all := lw_g (lw_at lw_m6 226 rfl) rfl
theorem q1491 : (Jvm.Cond.code ({ cls := "RoundingAuditor", name := "many", desc := "(I)I" } : Jvm.MethodName) prog_1_method_41_code (3 : Nat) (Option.some Jvm.ClassFile.FieldType.int)) ∈ lw_all := lw_g (lw_at lw_m6 227 rfl) rfl
theorem q1492 : (Jvm.Cond.methodLink "RoundingAuditor" (377 : Nat) ({ cls := "RoundingAuditor", name := "curedTotal", desc := "(LRoundingAuditor$Ledger;I)D" } : Jvm.MethodName)) ∈ lw_all := lw_g (lw_at lw_m6 228 rfl) rfl
theorem q1493 : (Jvm.Cond.static ({ cls := "RoundingAuditor", name := "curedTotal", desc := "(LRoundingAuditor$Ledger;I)D" } : Jvm.MethodName)) ∈ lw_all := lw_g (lw_at lw_m6 229 rfl) rfl
theorem q1494 : (Jvm.Cond.code ({ cls := "RoundingAuditor", name := "curedTotal", desc := "(LRoundingAuditor$Ledger;I)D" } : Jvm.MethodName) prog_1_method_40_code (7 : Nat) (Option.some Jvm.ClassFile.FieldType.double)) ∈ lw_all := lw_g (lw_at lw_m6 230 rfl) rfl
theorem q1499 : (Jvm.Cond.instanceMethod ({ cls := "RoundingAuditor", name := "statement", desc := "(IJI)I" } : Jvm.MethodName)) ∈ lw_all := lw_g (lw_at lw_m6 235 rfl) rfl
theorem q1500 : (Jvm.Cond.selects "RoundingAuditor" ({ cls := "RoundingAuditor", name := "statement", desc := "(IJI)I" } : Jvm.MethodName) ({ cls := "RoundingAuditor", name := "statement", desc := "(IJI)I" } : Jvm.MethodName)) ∈ lw_all := lw_g (lw_at lw_m6 236 rfl) rfl
theorem q1501 : (Jvm.Cond.codeWith ({ cls := "RoundingAuditor", name := "statement", desc := "(IJI)I" } : Jvm.MethodName) prog_1_method_45_code (12 : Nat) (Option.some Jvm.ClassFile.FieldType.int) [((93 : Nat), (119 : Nat), (122 : Nat), (164 : Nat))]) ∈ lw_all := lw_g (lw_at lw_m6 237 rfl) rfl
theorem q1506 : (Jvm.Cond.instanceMethod ({ cls := "RoundingAuditor", name := "split", desc := "(II)I" } : Jvm.MethodName)) ∈ lw_all := lw_g (lw_at lw_m7 2 rfl) rfl
theorem q1507 : (Jvm.Cond.selects "RoundingAuditor" ({ cls := "RoundingAuditor", name := "split", desc := "(II)I" } : Jvm.MethodName) ({ cls := "RoundingAuditor", name := "split", desc := "(II)I" } : Jvm.MethodName)) ∈ lw_all := lw_g (lw_at lw_m7 3 rfl) rfl
theorem q1508 : (Jvm.Cond.code ({ cls := "RoundingAuditor", name := "split", desc := "(II)I" } : Jvm.MethodName) prog_1_method_47_code (12 : Nat) (Option.some Jvm.ClassFile.FieldType.int)) ∈ lw_all := lw_g (lw_at lw_m7 4 rfl) rfl
theorem q1509 : (Jvm.Cond.constantLong "RoundingAuditor" (385 : Nat) (1000000 : Int64)) ∈ lw_all := lw_g (lw_at lw_m7 5 rfl) rfl
theorem q1511 : (Jvm.Cond.methodLink "RoundingAuditor" (387 : Nat) ({ cls := "RoundingAuditor", name := "quotient", desc := "(LRoundingAuditor$Ledger;II)I" } : Jvm.MethodName)) ∈ lw_all := lw_g (lw_at lw_m7 7 rfl) rfl
theorem q1512 : (Jvm.Cond.privateMethod ({ cls := "RoundingAuditor", name := "quotient", desc := "(LRoundingAuditor$Ledger;II)I" } : Jvm.MethodName)) ∈ lw_tbl := lw_at lw_m7 8 rfl
theorem q1513 : (Jvm.Cond.instanceMethod ({ cls := "RoundingAuditor", name := "quotient", desc := "(LRoundingAuditor$Ledger;II)I" } : Jvm.MethodName)) ∈ lw_all := lw_g (lw_at lw_m7 9 rfl) rfl
theorem q1514 : (Jvm.Cond.code ({ cls := "RoundingAuditor", name := "quotient", desc := "(LRoundingAuditor$Ledger;II)I" } : Jvm.MethodName) prog_1_method_46_code (7 : Nat) (Option.some Jvm.ClassFile.FieldType.int)) ∈ lw_all := lw_g (lw_at lw_m7 10 rfl) rfl
theorem q1515 : (Jvm.Cond.methodLink "RoundingAuditor" (383 : Nat) ({ cls := "RoundingAuditor$Exact", name := "add", desc := "(LRoundingAuditor$Exact;)V" } : Jvm.MethodName)) ∈ lw_all := lw_g (lw_at lw_m7 11 rfl) rfl
theorem q1523 : (Jvm.Cond.instanceMethod ({ cls := "RoundingAuditor", name := "sign", desc := "(III)I" } : Jvm.MethodName)) ∈ lw_all := lw_g (lw_at lw_m7 19 rfl) rfl
theorem q1524 : (Jvm.Cond.selects "RoundingAuditor" ({ cls := "RoundingAuditor", name := "sign", desc := "(III)I" } : Jvm.MethodName) ({ cls := "RoundingAuditor", name := "sign", desc := "(III)I" } : Jvm.MethodName)) ∈ lw_all := lw_g (lw_at lw_m7 20 rfl) rfl
theorem q1525 : (Jvm.Cond.code ({ cls := "RoundingAuditor", name := "sign", desc := "(III)I" } : Jvm.MethodName) prog_1_method_49_code (5 : Nat) (Option.some Jvm.ClassFile.FieldType.int)) ∈ lw_all := lw_g (lw_at lw_m7 21 rfl) rfl
theorem q2056 : (Jvm.Cond.castable "RoundingAuditor" "java/lang/Object") ∈ lw_tbl := lw_at lw_m9 72 rfl
theorem in_X1 : ∀ w ∈ wsX10, w ∈ lw_all := lw_in wsX10 [166, 168, 170, 172, 174, 176, 178] (by decide +kernel) (by decide +kernel)
