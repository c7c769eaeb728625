/-! RoundingAuditorModel -/
set_option maxRecDepth 100000
def RX3 : String := "RoundingAuditorModel"
def TX3 : u_T := fun k => match k with
  | 0 => ("RoundingAuditorModel", "thrown", "I", false)
  | 1 => ("RoundingAuditorModel", "many", "[I", true)
  | 2 => ("RoundingAuditorModel", "isWide", "[Z", true)
  | 3 => ("RoundingAuditorModel", "amountOf", "[D", true)
  | 4 => ("RoundingAuditorModel", "accountOf", "[I", true)
  | 5 => ("RoundingAuditorModel", "dayOf", "[I", true)
  | 6 => ("RoundingAuditorModel", "given", "[I", true)
  | 7 => ("RoundingAuditorModel", "givenOf", "[I", true)
  | 8 => ("RoundingAuditorModel", "runs", "I", false)
  | 9 => ("RoundingAuditorModel", "runWide", "[Z", true)
  | 10 => ("RoundingAuditorModel", "runWay", "[I", true)
  | 11 => ("RoundingAuditorModel", "runTotal", "[D", true)
  | 12 => ("RoundingAuditorModel", "runSteps", "[I", true)
  | 13 => ("RoundingAuditorModel", "left", "[D", true)
  | 14 => ("RoundingAuditorModel", "right", "[D", true)
  | 15 => ("RoundingAuditorModel", "result", "[D", true)
  | 16 => ("RoundingAuditorModel", "wide", "Z", false)
  | 17 => ("RoundingAuditorModel", "done", "I", false)
  | 18 => ("RoundingAuditorModel", "stepsAt", "I", false)
  | 19 => ("RoundingAuditorModel", "keeps", "Z", false)
  | 20 => ("RoundingAuditorModel", "order", "[I", true)
  | 21 => ("RoundingAuditorModel", "at", "[D", true)
  | 22 => ("RoundingAuditorModel", "spareAmount", "[D", true)
  | 23 => ("RoundingAuditorModel", "spareAccount", "[I", true)
  | 24 => ("RoundingAuditorModel", "spareDay", "[I", true)
  | 25 => ("RoundingAuditorModel", "cured", "I", false)
  | 26 => ("RoundingAuditorModel", "cureOf", "[I", true)
  | 27 => ("RoundingAuditorModel", "shareOf", "[I", true)
  | 28 => ("RoundingAuditorModel", "big", "[I", true)
  | 29 => ("RoundingAuditorModel", "unitsOf", "J", false)
  | 30 => ("RoundingAuditorModel", "spare", "I", false)
  | 31 => ("RoundingAuditorModel", "halfFrom", "[I", true)
  | 32 => ("RoundingAuditorModel", "halfMany", "[I", true)
  | 33 => ("RoundingAuditorModel", "halfDone", "[I", true)
  | 34 => ("RoundingAuditorModel", "halfTotal", "[D", true)
  | _ => ("RoundingAuditorModel", "isFar", "Z", false)
def tyX3 : Nat → FieldType := fun k => match k with
  | 0 => .int
  | 1 => .array .int
  | 2 => .array .boolean
  | 3 => .array .double
  | 4 => .array .int
  | 5 => .array .int
  | 6 => .array .int
  | 7 => .array .int
  | 8 => .int
  | 9 => .array .boolean
  | 10 => .array .int
  | 11 => .array .double
  | 12 => .array .int
  | 13 => .array .double
  | 14 => .array .double
  | 15 => .array .double
  | 16 => .boolean
  | 17 => .int
  | 18 => .int
  | 19 => .boolean
  | 20 => .array .int
  | 21 => .array .double
  | 22 => .array .double
  | 23 => .array .int
  | 24 => .array .int
  | 25 => .int
  | 26 => .array .int
  | 27 => .array .int
  | 28 => .array .int
  | 29 => .long
  | 30 => .int
  | 31 => .array .int
  | 32 => .array .int
  | 33 => .array .int
  | 34 => .array .double
  | _ => .boolean
abbrev wsX30 : List Cond := u_ws RX3 TX3 36
set_option maxRecDepth 100000 in
theorem nmX3 : ∀ a, a < 36 → ∀ b, b < 36 → a ≠ b → (TX3 a).2.1 ≠ (TX3 b).2.1 := by decide +kernel
set_option maxRecDepth 100000 in
theorem tyX3_ok : ∀ k, k < 36 → parseFieldDescriptor (TX3 k).2.2.1 = some (tyX3 k) := by decide +kernel
abbrev cX3_init : ByteArray := prog_27_method_1_code
def yX3_init : MethodName := ⟨RX3, "<init>", "()V"⟩
def dkwX3_init_11 : List UInt8 := [16, 12, 188, 10, 181, 0, 85, 42, 16, 12, 188, 10, 181, 0, 88, 42, 16, 12, 188, 7, 181, 0, 91, 177]
abbrev dktX3_init_11 : List UInt8 := dkwX3_init_11 ++ []
def dkwX3_init_10 : List UInt8 := [188, 10, 181, 0, 76, 42, 17, 4, 32, 188, 10, 181, 0, 79, 42, 16, 12, 188, 10, 181, 0, 82, 42]
abbrev dktX3_init_10 : List UInt8 := dkwX3_init_10 ++ dktX3_init_11
def dkwX3_init_9 : List UInt8 := [16, 60, 188, 10, 181, 0, 66, 42, 2, 181, 0, 69, 42, 16, 10, 188, 10, 181, 0, 73, 42, 16, 10]
abbrev dktX3_init_9 : List UInt8 := dkwX3_init_9 ++ dktX3_init_10
def dkwX3_init_8 : List UInt8 := [16, 120, 188, 7, 181, 0, 57, 42, 16, 60, 188, 7, 181, 0, 60, 42, 16, 60, 188, 10, 181, 0, 63, 42]
abbrev dktX3_init_8 : List UInt8 := dkwX3_init_8 ++ dktX3_init_9
def dkwX3_init_7 : List UInt8 := [188, 7, 181, 0, 48, 42, 17, 14, 16, 188, 7, 181, 0, 51, 42, 16, 60, 188, 10, 181, 0, 54, 42]
abbrev dktX3_init_7 : List UInt8 := dkwX3_init_7 ++ dktX3_init_8
def dkwX3_init_6 : List UInt8 := [181, 0, 39, 42, 16, 60, 188, 10, 181, 0, 42, 42, 17, 14, 16, 188, 7, 181, 0, 45, 42, 17, 14, 16]
abbrev dktX3_init_6 : List UInt8 := dkwX3_init_6 ++ dktX3_init_7
def dkwX3_init_5 : List UInt8 := [181, 0, 30, 42, 16, 60, 188, 4, 181, 0, 33, 42, 16, 60, 188, 10, 181, 0, 36, 42, 16, 60, 188, 7]
abbrev dktX3_init_5 : List UInt8 := dkwX3_init_5 ++ dktX3_init_6
def dkwX3_init_4 : List UInt8 := [17, 2, 208, 188, 10, 181, 0, 24, 42, 16, 12, 188, 10, 181, 0, 27, 42, 17, 2, 208, 188, 10]
abbrev dktX3_init_4 : List UInt8 := dkwX3_init_4 ++ dktX3_init_5
def dkwX3_init_3 : List UInt8 := [181, 0, 13, 42, 17, 2, 208, 188, 7, 181, 0, 17, 42, 17, 2, 208, 188, 10, 181, 0, 21, 42]
abbrev dktX3_init_3 : List UInt8 := dkwX3_init_3 ++ dktX3_init_4
def dkwX3_init_2 : List UInt8 := [89, 16, 9, 2, 79, 89, 16, 10, 2, 79, 89, 16, 11, 2, 79, 181, 0, 7, 42, 16, 12, 188, 4]
abbrev dktX3_init_2 : List UInt8 := dkwX3_init_2 ++ dktX3_init_3
def dkwX3_init_1 : List UInt8 := [79, 89, 7, 2, 79, 89, 8, 2, 79, 89, 16, 6, 2, 79, 89, 16, 7, 2, 79, 89, 16, 8, 2, 79]
abbrev dktX3_init_1 : List UInt8 := dkwX3_init_1 ++ dktX3_init_2
def dkwX3_init_0 : List UInt8 := [42, 183, 0, 1, 42, 16, 12, 188, 10, 89, 3, 2, 79, 89, 4, 2, 79, 89, 5, 2, 79, 89, 6, 2]
abbrev dktX3_init_0 : List UInt8 := dkwX3_init_0 ++ dktX3_init_1
theorem dksX3_init_0 : cX3_init.data.toList.drop 0 = dktX3_init_0 := by decide +kernel
theorem dksX3_init_1 : cX3_init.data.toList.drop 24 = dktX3_init_1 := dk_seg dksX3_init_0 24 rfl rfl
theorem dksX3_init_2 : cX3_init.data.toList.drop 48 = dktX3_init_2 := dk_seg dksX3_init_1 24 rfl rfl
theorem dksX3_init_3 : cX3_init.data.toList.drop 71 = dktX3_init_3 := dk_seg dksX3_init_2 23 rfl rfl
theorem dksX3_init_4 : cX3_init.data.toList.drop 93 = dktX3_init_4 := dk_seg dksX3_init_3 22 rfl rfl
theorem dksX3_init_5 : cX3_init.data.toList.drop 115 = dktX3_init_5 := dk_seg dksX3_init_4 22 rfl rfl
theorem dksX3_init_6 : cX3_init.data.toList.drop 139 = dktX3_init_6 := dk_seg dksX3_init_5 24 rfl rfl
theorem dksX3_init_7 : cX3_init.data.toList.drop 163 = dktX3_init_7 := dk_seg dksX3_init_6 24 rfl rfl
theorem dksX3_init_8 : cX3_init.data.toList.drop 186 = dktX3_init_8 := dk_seg dksX3_init_7 23 rfl rfl
theorem dksX3_init_9 : cX3_init.data.toList.drop 210 = dktX3_init_9 := dk_seg dksX3_init_8 24 rfl rfl
theorem dksX3_init_10 : cX3_init.data.toList.drop 233 = dktX3_init_10 := dk_seg dksX3_init_9 23 rfl rfl
theorem dksX3_init_11 : cX3_init.data.toList.drop 256 = dktX3_init_11 := dk_seg dksX3_init_10 23 rfl rfl
theorem dX3_init_0 : decode cX3_init 0 = .ok (.aload_n 0, 1) := dk_42 (dk_at dksX3_init_0 0 rfl rfl)
theorem dX3_init_1 : decode cX3_init 1 = .ok (.invokespecial 1, 3) := dk_183 0 1 (dk_at dksX3_init_0 1 rfl rfl)
theorem dX3_init_4 : decode cX3_init 4 = .ok (.aload_n 0, 1) := dk_42 (dk_at dksX3_init_0 4 rfl rfl)
theorem dX3_init_5 : decode cX3_init 5 = .ok (.bipush 12, 2) := dk_16 12 (dk_at dksX3_init_0 5 rfl rfl)
theorem dX3_init_7 : decode cX3_init 7 = .ok (.newarray .int, 2) := dk_188_10 (dk_at dksX3_init_0 7 rfl rfl)
theorem dX3_init_9 : decode cX3_init 9 = .ok (.dup, 1) := dk_89 (dk_at dksX3_init_0 9 rfl rfl)
theorem dX3_init_10 : decode cX3_init 10 = .ok (.iconst 0, 1) := dk_3 (dk_at dksX3_init_0 10 rfl rfl)
theorem dX3_init_11 : decode cX3_init 11 = .ok (.iconst (-1), 1) := dk_2 (dk_at dksX3_init_0 11 rfl rfl)
theorem dX3_init_12 : decode cX3_init 12 = .ok (.iastore, 1) := dk_79 (dk_at dksX3_init_0 12 rfl rfl)
theorem dX3_init_13 : decode cX3_init 13 = .ok (.dup, 1) := dk_89 (dk_at dksX3_init_0 13 rfl rfl)
theorem dX3_init_14 : decode cX3_init 14 = .ok (.iconst 1, 1) := dk_4 (dk_at dksX3_init_0 14 rfl rfl)
theorem dX3_init_15 : decode cX3_init 15 = .ok (.iconst (-1), 1) := dk_2 (dk_at dksX3_init_0 15 rfl rfl)
theorem dX3_init_16 : decode cX3_init 16 = .ok (.iastore, 1) := dk_79 (dk_at dksX3_init_0 16 rfl rfl)
theorem dX3_init_17 : decode cX3_init 17 = .ok (.dup, 1) := dk_89 (dk_at dksX3_init_0 17 rfl rfl)
theorem dX3_init_18 : decode cX3_init 18 = .ok (.iconst 2, 1) := dk_5 (dk_at dksX3_init_0 18 rfl rfl)
theorem dX3_init_19 : decode cX3_init 19 = .ok (.iconst (-1), 1) := dk_2 (dk_at dksX3_init_0 19 rfl rfl)
theorem dX3_init_20 : decode cX3_init 20 = .ok (.iastore, 1) := dk_79 (dk_at dksX3_init_0 20 rfl rfl)
theorem dX3_init_21 : decode cX3_init 21 = .ok (.dup, 1) := dk_89 (dk_at dksX3_init_0 21 rfl rfl)
theorem dX3_init_22 : decode cX3_init 22 = .ok (.iconst 3, 1) := dk_6 (dk_at dksX3_init_0 22 rfl rfl)
theorem dX3_init_23 : decode cX3_init 23 = .ok (.iconst (-1), 1) := dk_2 (dk_at dksX3_init_0 23 rfl rfl)
theorem dX3_init_24 : decode cX3_init 24 = .ok (.iastore, 1) := dk_79 (dk_at dksX3_init_1 0 rfl rfl)
theorem dX3_init_25 : decode cX3_init 25 = .ok (.dup, 1) := dk_89 (dk_at dksX3_init_1 1 rfl rfl)
theorem dX3_init_26 : decode cX3_init 26 = .ok (.iconst 4, 1) := dk_7 (dk_at dksX3_init_1 2 rfl rfl)
theorem dX3_init_27 : decode cX3_init 27 = .ok (.iconst (-1), 1) := dk_2 (dk_at dksX3_init_1 3 rfl rfl)
theorem dX3_init_28 : decode cX3_init 28 = .ok (.iastore, 1) := dk_79 (dk_at dksX3_init_1 4 rfl rfl)
theorem dX3_init_29 : decode cX3_init 29 = .ok (.dup, 1) := dk_89 (dk_at dksX3_init_1 5 rfl rfl)
theorem dX3_init_30 : decode cX3_init 30 = .ok (.iconst 5, 1) := dk_8 (dk_at dksX3_init_1 6 rfl rfl)
theorem dX3_init_31 : decode cX3_init 31 = .ok (.iconst (-1), 1) := dk_2 (dk_at dksX3_init_1 7 rfl rfl)
theorem dX3_init_32 : decode cX3_init 32 = .ok (.iastore, 1) := dk_79 (dk_at dksX3_init_1 8 rfl rfl)
theorem dX3_init_33 : decode cX3_init 33 = .ok (.dup, 1) := dk_89 (dk_at dksX3_init_1 9 rfl rfl)
theorem dX3_init_34 : decode cX3_init 34 = .ok (.bipush 6, 2) := dk_16 6 (dk_at dksX3_init_1 10 rfl rfl)
theorem dX3_init_36 : decode cX3_init 36 = .ok (.iconst (-1), 1) := dk_2 (dk_at dksX3_init_1 12 rfl rfl)
theorem dX3_init_37 : decode cX3_init 37 = .ok (.iastore, 1) := dk_79 (dk_at dksX3_init_1 13 rfl rfl)
theorem dX3_init_38 : decode cX3_init 38 = .ok (.dup, 1) := dk_89 (dk_at dksX3_init_1 14 rfl rfl)
theorem dX3_init_39 : decode cX3_init 39 = .ok (.bipush 7, 2) := dk_16 7 (dk_at dksX3_init_1 15 rfl rfl)
theorem dX3_init_41 : decode cX3_init 41 = .ok (.iconst (-1), 1) := dk_2 (dk_at dksX3_init_1 17 rfl rfl)
theorem dX3_init_42 : decode cX3_init 42 = .ok (.iastore, 1) := dk_79 (dk_at dksX3_init_1 18 rfl rfl)
theorem dX3_init_43 : decode cX3_init 43 = .ok (.dup, 1) := dk_89 (dk_at dksX3_init_1 19 rfl rfl)
theorem dX3_init_44 : decode cX3_init 44 = .ok (.bipush 8, 2) := dk_16 8 (dk_at dksX3_init_1 20 rfl rfl)
theorem dX3_init_46 : decode cX3_init 46 = .ok (.iconst (-1), 1) := dk_2 (dk_at dksX3_init_1 22 rfl rfl)
theorem dX3_init_47 : decode cX3_init 47 = .ok (.iastore, 1) := dk_79 (dk_at dksX3_init_1 23 rfl rfl)
theorem dX3_init_48 : decode cX3_init 48 = .ok (.dup, 1) := dk_89 (dk_at dksX3_init_2 0 rfl rfl)
theorem dX3_init_49 : decode cX3_init 49 = .ok (.bipush 9, 2) := dk_16 9 (dk_at dksX3_init_2 1 rfl rfl)
theorem dX3_init_51 : decode cX3_init 51 = .ok (.iconst (-1), 1) := dk_2 (dk_at dksX3_init_2 3 rfl rfl)
theorem dX3_init_52 : decode cX3_init 52 = .ok (.iastore, 1) := dk_79 (dk_at dksX3_init_2 4 rfl rfl)
theorem dX3_init_53 : decode cX3_init 53 = .ok (.dup, 1) := dk_89 (dk_at dksX3_init_2 5 rfl rfl)
theorem dX3_init_54 : decode cX3_init 54 = .ok (.bipush 10, 2) := dk_16 10 (dk_at dksX3_init_2 6 rfl rfl)
theorem dX3_init_56 : decode cX3_init 56 = .ok (.iconst (-1), 1) := dk_2 (dk_at dksX3_init_2 8 rfl rfl)
theorem dX3_init_57 : decode cX3_init 57 = .ok (.iastore, 1) := dk_79 (dk_at dksX3_init_2 9 rfl rfl)
theorem dX3_init_58 : decode cX3_init 58 = .ok (.dup, 1) := dk_89 (dk_at dksX3_init_2 10 rfl rfl)
theorem dX3_init_59 : decode cX3_init 59 = .ok (.bipush 11, 2) := dk_16 11 (dk_at dksX3_init_2 11 rfl rfl)
theorem dX3_init_61 : decode cX3_init 61 = .ok (.iconst (-1), 1) := dk_2 (dk_at dksX3_init_2 13 rfl rfl)
theorem dX3_init_62 : decode cX3_init 62 = .ok (.iastore, 1) := dk_79 (dk_at dksX3_init_2 14 rfl rfl)
theorem dX3_init_63 : decode cX3_init 63 = .ok (.putfield 7, 3) := dk_181 0 7 (dk_at dksX3_init_2 15 rfl rfl)
theorem dX3_init_66 : decode cX3_init 66 = .ok (.aload_n 0, 1) := dk_42 (dk_at dksX3_init_2 18 rfl rfl)
theorem dX3_init_67 : decode cX3_init 67 = .ok (.bipush 12, 2) := dk_16 12 (dk_at dksX3_init_2 19 rfl rfl)
theorem dX3_init_69 : decode cX3_init 69 = .ok (.newarray .boolean, 2) := dk_188_4 (dk_at dksX3_init_2 21 rfl rfl)
theorem dX3_init_71 : decode cX3_init 71 = .ok (.putfield 13, 3) := dk_181 0 13 (dk_at dksX3_init_3 0 rfl rfl)
theorem dX3_init_74 : decode cX3_init 74 = .ok (.aload_n 0, 1) := dk_42 (dk_at dksX3_init_3 3 rfl rfl)
theorem dX3_init_75 : decode cX3_init 75 = .ok (.sipush 720, 3) := dk_17 2 208 (dk_at dksX3_init_3 4 rfl rfl)
theorem dX3_init_78 : decode cX3_init 78 = .ok (.newarray .double, 2) := dk_188_7 (dk_at dksX3_init_3 7 rfl rfl)
theorem dX3_init_80 : decode cX3_init 80 = .ok (.putfield 17, 3) := dk_181 0 17 (dk_at dksX3_init_3 9 rfl rfl)
theorem dX3_init_83 : decode cX3_init 83 = .ok (.aload_n 0, 1) := dk_42 (dk_at dksX3_init_3 12 rfl rfl)
theorem dX3_init_84 : decode cX3_init 84 = .ok (.sipush 720, 3) := dk_17 2 208 (dk_at dksX3_init_3 13 rfl rfl)
theorem dX3_init_87 : decode cX3_init 87 = .ok (.newarray .int, 2) := dk_188_10 (dk_at dksX3_init_3 16 rfl rfl)
theorem dX3_init_89 : decode cX3_init 89 = .ok (.putfield 21, 3) := dk_181 0 21 (dk_at dksX3_init_3 18 rfl rfl)
theorem dX3_init_92 : decode cX3_init 92 = .ok (.aload_n 0, 1) := dk_42 (dk_at dksX3_init_3 21 rfl rfl)
theorem dX3_init_93 : decode cX3_init 93 = .ok (.sipush 720, 3) := dk_17 2 208 (dk_at dksX3_init_4 0 rfl rfl)
theorem dX3_init_96 : decode cX3_init 96 = .ok (.newarray .int, 2) := dk_188_10 (dk_at dksX3_init_4 3 rfl rfl)
theorem dX3_init_98 : decode cX3_init 98 = .ok (.putfield 24, 3) := dk_181 0 24 (dk_at dksX3_init_4 5 rfl rfl)
theorem dX3_init_101 : decode cX3_init 101 = .ok (.aload_n 0, 1) := dk_42 (dk_at dksX3_init_4 8 rfl rfl)
theorem dX3_init_102 : decode cX3_init 102 = .ok (.bipush 12, 2) := dk_16 12 (dk_at dksX3_init_4 9 rfl rfl)
theorem dX3_init_104 : decode cX3_init 104 = .ok (.newarray .int, 2) := dk_188_10 (dk_at dksX3_init_4 11 rfl rfl)
theorem dX3_init_106 : decode cX3_init 106 = .ok (.putfield 27, 3) := dk_181 0 27 (dk_at dksX3_init_4 13 rfl rfl)
theorem dX3_init_109 : decode cX3_init 109 = .ok (.aload_n 0, 1) := dk_42 (dk_at dksX3_init_4 16 rfl rfl)
theorem dX3_init_110 : decode cX3_init 110 = .ok (.sipush 720, 3) := dk_17 2 208 (dk_at dksX3_init_4 17 rfl rfl)
theorem dX3_init_113 : decode cX3_init 113 = .ok (.newarray .int, 2) := dk_188_10 (dk_at dksX3_init_4 20 rfl rfl)
theorem dX3_init_115 : decode cX3_init 115 = .ok (.putfield 30, 3) := dk_181 0 30 (dk_at dksX3_init_5 0 rfl rfl)
theorem dX3_init_118 : decode cX3_init 118 = .ok (.aload_n 0, 1) := dk_42 (dk_at dksX3_init_5 3 rfl rfl)
theorem dX3_init_119 : decode cX3_init 119 = .ok (.bipush 60, 2) := dk_16 60 (dk_at dksX3_init_5 4 rfl rfl)
theorem dX3_init_121 : decode cX3_init 121 = .ok (.newarray .boolean, 2) := dk_188_4 (dk_at dksX3_init_5 6 rfl rfl)
theorem dX3_init_123 : decode cX3_init 123 = .ok (.putfield 33, 3) := dk_181 0 33 (dk_at dksX3_init_5 8 rfl rfl)
theorem dX3_init_126 : decode cX3_init 126 = .ok (.aload_n 0, 1) := dk_42 (dk_at dksX3_init_5 11 rfl rfl)
theorem dX3_init_127 : decode cX3_init 127 = .ok (.bipush 60, 2) := dk_16 60 (dk_at dksX3_init_5 12 rfl rfl)
theorem dX3_init_129 : decode cX3_init 129 = .ok (.newarray .int, 2) := dk_188_10 (dk_at dksX3_init_5 14 rfl rfl)
theorem dX3_init_131 : decode cX3_init 131 = .ok (.putfield 36, 3) := dk_181 0 36 (dk_at dksX3_init_5 16 rfl rfl)
theorem dX3_init_134 : decode cX3_init 134 = .ok (.aload_n 0, 1) := dk_42 (dk_at dksX3_init_5 19 rfl rfl)
theorem dX3_init_135 : decode cX3_init 135 = .ok (.bipush 60, 2) := dk_16 60 (dk_at dksX3_init_5 20 rfl rfl)
theorem dX3_init_137 : decode cX3_init 137 = .ok (.newarray .double, 2) := dk_188_7 (dk_at dksX3_init_5 22 rfl rfl)
theorem dX3_init_139 : decode cX3_init 139 = .ok (.putfield 39, 3) := dk_181 0 39 (dk_at dksX3_init_6 0 rfl rfl)
theorem dX3_init_142 : decode cX3_init 142 = .ok (.aload_n 0, 1) := dk_42 (dk_at dksX3_init_6 3 rfl rfl)
theorem dX3_init_143 : decode cX3_init 143 = .ok (.bipush 60, 2) := dk_16 60 (dk_at dksX3_init_6 4 rfl rfl)
theorem dX3_init_145 : decode cX3_init 145 = .ok (.newarray .int, 2) := dk_188_10 (dk_at dksX3_init_6 6 rfl rfl)
theorem dX3_init_147 : decode cX3_init 147 = .ok (.putfield 42, 3) := dk_181 0 42 (dk_at dksX3_init_6 8 rfl rfl)
theorem dX3_init_150 : decode cX3_init 150 = .ok (.aload_n 0, 1) := dk_42 (dk_at dksX3_init_6 11 rfl rfl)
theorem dX3_init_151 : decode cX3_init 151 = .ok (.sipush 3600, 3) := dk_17 14 16 (dk_at dksX3_init_6 12 rfl rfl)
theorem dX3_init_154 : decode cX3_init 154 = .ok (.newarray .double, 2) := dk_188_7 (dk_at dksX3_init_6 15 rfl rfl)
theorem dX3_init_156 : decode cX3_init 156 = .ok (.putfield 45, 3) := dk_181 0 45 (dk_at dksX3_init_6 17 rfl rfl)
theorem dX3_init_159 : decode cX3_init 159 = .ok (.aload_n 0, 1) := dk_42 (dk_at dksX3_init_6 20 rfl rfl)
theorem dX3_init_160 : decode cX3_init 160 = .ok (.sipush 3600, 3) := dk_17 14 16 (dk_at dksX3_init_6 21 rfl rfl)
theorem dX3_init_163 : decode cX3_init 163 = .ok (.newarray .double, 2) := dk_188_7 (dk_at dksX3_init_7 0 rfl rfl)
theorem dX3_init_165 : decode cX3_init 165 = .ok (.putfield 48, 3) := dk_181 0 48 (dk_at dksX3_init_7 2 rfl rfl)
theorem dX3_init_168 : decode cX3_init 168 = .ok (.aload_n 0, 1) := dk_42 (dk_at dksX3_init_7 5 rfl rfl)
theorem dX3_init_169 : decode cX3_init 169 = .ok (.sipush 3600, 3) := dk_17 14 16 (dk_at dksX3_init_7 6 rfl rfl)
theorem dX3_init_172 : decode cX3_init 172 = .ok (.newarray .double, 2) := dk_188_7 (dk_at dksX3_init_7 9 rfl rfl)
theorem dX3_init_174 : decode cX3_init 174 = .ok (.putfield 51, 3) := dk_181 0 51 (dk_at dksX3_init_7 11 rfl rfl)
theorem dX3_init_177 : decode cX3_init 177 = .ok (.aload_n 0, 1) := dk_42 (dk_at dksX3_init_7 14 rfl rfl)
theorem dX3_init_178 : decode cX3_init 178 = .ok (.bipush 60, 2) := dk_16 60 (dk_at dksX3_init_7 15 rfl rfl)
theorem dX3_init_180 : decode cX3_init 180 = .ok (.newarray .int, 2) := dk_188_10 (dk_at dksX3_init_7 17 rfl rfl)
theorem dX3_init_182 : decode cX3_init 182 = .ok (.putfield 54, 3) := dk_181 0 54 (dk_at dksX3_init_7 19 rfl rfl)
theorem dX3_init_185 : decode cX3_init 185 = .ok (.aload_n 0, 1) := dk_42 (dk_at dksX3_init_7 22 rfl rfl)
theorem dX3_init_186 : decode cX3_init 186 = .ok (.bipush 120, 2) := dk_16 120 (dk_at dksX3_init_8 0 rfl rfl)
theorem dX3_init_188 : decode cX3_init 188 = .ok (.newarray .double, 2) := dk_188_7 (dk_at dksX3_init_8 2 rfl rfl)
theorem dX3_init_190 : decode cX3_init 190 = .ok (.putfield 57, 3) := dk_181 0 57 (dk_at dksX3_init_8 4 rfl rfl)
theorem dX3_init_193 : decode cX3_init 193 = .ok (.aload_n 0, 1) := dk_42 (dk_at dksX3_init_8 7 rfl rfl)
theorem dX3_init_194 : decode cX3_init 194 = .ok (.bipush 60, 2) := dk_16 60 (dk_at dksX3_init_8 8 rfl rfl)
theorem dX3_init_196 : decode cX3_init 196 = .ok (.newarray .double, 2) := dk_188_7 (dk_at dksX3_init_8 10 rfl rfl)
theorem dX3_init_198 : decode cX3_init 198 = .ok (.putfield 60, 3) := dk_181 0 60 (dk_at dksX3_init_8 12 rfl rfl)
theorem dX3_init_201 : decode cX3_init 201 = .ok (.aload_n 0, 1) := dk_42 (dk_at dksX3_init_8 15 rfl rfl)
theorem dX3_init_202 : decode cX3_init 202 = .ok (.bipush 60, 2) := dk_16 60 (dk_at dksX3_init_8 16 rfl rfl)
theorem dX3_init_204 : decode cX3_init 204 = .ok (.newarray .int, 2) := dk_188_10 (dk_at dksX3_init_8 18 rfl rfl)
theorem dX3_init_206 : decode cX3_init 206 = .ok (.putfield 63, 3) := dk_181 0 63 (dk_at dksX3_init_8 20 rfl rfl)
theorem dX3_init_209 : decode cX3_init 209 = .ok (.aload_n 0, 1) := dk_42 (dk_at dksX3_init_8 23 rfl rfl)
theorem dX3_init_210 : decode cX3_init 210 = .ok (.bipush 60, 2) := dk_16 60 (dk_at dksX3_init_9 0 rfl rfl)
theorem dX3_init_212 : decode cX3_init 212 = .ok (.newarray .int, 2) := dk_188_10 (dk_at dksX3_init_9 2 rfl rfl)
theorem dX3_init_214 : decode cX3_init 214 = .ok (.putfield 66, 3) := dk_181 0 66 (dk_at dksX3_init_9 4 rfl rfl)
theorem dX3_init_217 : decode cX3_init 217 = .ok (.aload_n 0, 1) := dk_42 (dk_at dksX3_init_9 7 rfl rfl)
theorem dX3_init_218 : decode cX3_init 218 = .ok (.iconst (-1), 1) := dk_2 (dk_at dksX3_init_9 8 rfl rfl)
theorem dX3_init_219 : decode cX3_init 219 = .ok (.putfield 69, 3) := dk_181 0 69 (dk_at dksX3_init_9 9 rfl rfl)
theorem dX3_init_222 : decode cX3_init 222 = .ok (.aload_n 0, 1) := dk_42 (dk_at dksX3_init_9 12 rfl rfl)
theorem dX3_init_223 : decode cX3_init 223 = .ok (.bipush 10, 2) := dk_16 10 (dk_at dksX3_init_9 13 rfl rfl)
theorem dX3_init_225 : decode cX3_init 225 = .ok (.newarray .int, 2) := dk_188_10 (dk_at dksX3_init_9 15 rfl rfl)
theorem dX3_init_227 : decode cX3_init 227 = .ok (.putfield 73, 3) := dk_181 0 73 (dk_at dksX3_init_9 17 rfl rfl)
theorem dX3_init_230 : decode cX3_init 230 = .ok (.aload_n 0, 1) := dk_42 (dk_at dksX3_init_9 20 rfl rfl)
theorem dX3_init_231 : decode cX3_init 231 = .ok (.bipush 10, 2) := dk_16 10 (dk_at dksX3_init_9 21 rfl rfl)
theorem dX3_init_233 : decode cX3_init 233 = .ok (.newarray .int, 2) := dk_188_10 (dk_at dksX3_init_10 0 rfl rfl)
theorem dX3_init_235 : decode cX3_init 235 = .ok (.putfield 76, 3) := dk_181 0 76 (dk_at dksX3_init_10 2 rfl rfl)
theorem dX3_init_238 : decode cX3_init 238 = .ok (.aload_n 0, 1) := dk_42 (dk_at dksX3_init_10 5 rfl rfl)
theorem dX3_init_239 : decode cX3_init 239 = .ok (.sipush 1056, 3) := dk_17 4 32 (dk_at dksX3_init_10 6 rfl rfl)
theorem dX3_init_242 : decode cX3_init 242 = .ok (.newarray .int, 2) := dk_188_10 (dk_at dksX3_init_10 9 rfl rfl)
theorem dX3_init_244 : decode cX3_init 244 = .ok (.putfield 79, 3) := dk_181 0 79 (dk_at dksX3_init_10 11 rfl rfl)
theorem dX3_init_247 : decode cX3_init 247 = .ok (.aload_n 0, 1) := dk_42 (dk_at dksX3_init_10 14 rfl rfl)
theorem dX3_init_248 : decode cX3_init 248 = .ok (.bipush 12, 2) := dk_16 12 (dk_at dksX3_init_10 15 rfl rfl)
theorem dX3_init_250 : decode cX3_init 250 = .ok (.newarray .int, 2) := dk_188_10 (dk_at dksX3_init_10 17 rfl rfl)
theorem dX3_init_252 : decode cX3_init 252 = .ok (.putfield 82, 3) := dk_181 0 82 (dk_at dksX3_init_10 19 rfl rfl)
theorem dX3_init_255 : decode cX3_init 255 = .ok (.aload_n 0, 1) := dk_42 (dk_at dksX3_init_10 22 rfl rfl)
theorem dX3_init_256 : decode cX3_init 256 = .ok (.bipush 12, 2) := dk_16 12 (dk_at dksX3_init_11 0 rfl rfl)
theorem dX3_init_258 : decode cX3_init 258 = .ok (.newarray .int, 2) := dk_188_10 (dk_at dksX3_init_11 2 rfl rfl)
theorem dX3_init_260 : decode cX3_init 260 = .ok (.putfield 85, 3) := dk_181 0 85 (dk_at dksX3_init_11 4 rfl rfl)
theorem dX3_init_263 : decode cX3_init 263 = .ok (.aload_n 0, 1) := dk_42 (dk_at dksX3_init_11 7 rfl rfl)
theorem dX3_init_264 : decode cX3_init 264 = .ok (.bipush 12, 2) := dk_16 12 (dk_at dksX3_init_11 8 rfl rfl)
theorem dX3_init_266 : decode cX3_init 266 = .ok (.newarray .int, 2) := dk_188_10 (dk_at dksX3_init_11 10 rfl rfl)
theorem dX3_init_268 : decode cX3_init 268 = .ok (.putfield 88, 3) := dk_181 0 88 (dk_at dksX3_init_11 12 rfl rfl)
theorem dX3_init_271 : decode cX3_init 271 = .ok (.aload_n 0, 1) := dk_42 (dk_at dksX3_init_11 15 rfl rfl)
theorem dX3_init_272 : decode cX3_init 272 = .ok (.bipush 12, 2) := dk_16 12 (dk_at dksX3_init_11 16 rfl rfl)
theorem dX3_init_274 : decode cX3_init 274 = .ok (.newarray .double, 2) := dk_188_7 (dk_at dksX3_init_11 18 rfl rfl)
theorem dX3_init_276 : decode cX3_init 276 = .ok (.putfield 91, 3) := dk_181 0 91 (dk_at dksX3_init_11 20 rfl rfl)
theorem dX3_init_279 : decode cX3_init 279 = .ok (.return_, 1) := dk_177 (dk_at dksX3_init_11 23 rfl rfl)
abbrev cX3_thrown : ByteArray := prog_27_method_2_code
def yX3_thrown : MethodName := ⟨RX3, "thrown", "()I"⟩
theorem dX3_thrown_0 : decode cX3_thrown 0 = .ok (.aload_n 0, 1) := by decide +kernel
theorem dX3_thrown_1 : decode cX3_thrown 1 = .ok (.getfield 94, 3) := by decide +kernel
theorem dX3_thrown_4 : decode cX3_thrown 4 = .ok (.ireturn, 1) := by decide +kernel
abbrev cX3_ledger : ByteArray := prog_27_method_28_code
def yX3_ledger : MethodName := ⟨RX3, "ledger", "(IZI)I"⟩
def dkwX3_ledger_2 : List UInt8 := [182, 0, 196, 29, 172]
abbrev dktX3_ledger_2 : List UInt8 := dkwX3_ledger_2 ++ []
def dkwX3_ledger_1 : List UInt8 := [16, 60, 164, 0, 6, 16, 154, 172, 29, 156, 0, 9, 42, 5, 182, 0, 193, 172, 42, 27, 28, 29]
abbrev dktX3_ledger_1 : List UInt8 := dkwX3_ledger_1 ++ dktX3_ledger_2
def dkwX3_ledger_0 : List UInt8 := [42, 3, 181, 0, 94, 27, 133, 9, 20, 0, 97, 184, 0, 99, 154, 0, 9, 42, 4, 182, 0, 193, 172, 29]
abbrev dktX3_ledger_0 : List UInt8 := dkwX3_ledger_0 ++ dktX3_ledger_1
theorem dksX3_ledger_0 : cX3_ledger.data.toList.drop 0 = dktX3_ledger_0 := by decide +kernel
theorem dksX3_ledger_1 : cX3_ledger.data.toList.drop 24 = dktX3_ledger_1 := dk_seg dksX3_ledger_0 24 rfl rfl
theorem dksX3_ledger_2 : cX3_ledger.data.toList.drop 46 = dktX3_ledger_2 := dk_seg dksX3_ledger_1 22 rfl rfl
theorem dX3_ledger_0 : decode cX3_ledger 0 = .ok (.aload_n 0, 1) := dk_42 (dk_at dksX3_ledger_0 0 rfl rfl)
theorem dX3_ledger_1 : decode cX3_ledger 1 = .ok (.iconst 0, 1) := dk_3 (dk_at dksX3_ledger_0 1 rfl rfl)
theorem dX3_ledger_2 : decode cX3_ledger 2 = .ok (.putfield 94, 3) := dk_181 0 94 (dk_at dksX3_ledger_0 2 rfl rfl)
theorem dX3_ledger_5 : decode cX3_ledger 5 = .ok (.iload_n 1, 1) := dk_27 (dk_at dksX3_ledger_0 5 rfl rfl)
theorem dX3_ledger_6 : decode cX3_ledger 6 = .ok (.i2l, 1) := dk_133 (dk_at dksX3_ledger_0 6 rfl rfl)
theorem dX3_ledger_7 : decode cX3_ledger 7 = .ok (.lconst 0, 1) := dk_9 (dk_at dksX3_ledger_0 7 rfl rfl)
theorem dX3_ledger_8 : decode cX3_ledger 8 = .ok (.ldc2_w 97, 3) := dk_20 0 97 (dk_at dksX3_ledger_0 8 rfl rfl)
theorem dX3_ledger_11 : decode cX3_ledger 11 = .ok (.invokestatic 99, 3) := dk_184 0 99 (dk_at dksX3_ledger_0 11 rfl rfl)
theorem dX3_ledger_14 : decode cX3_ledger 14 = .ok (.ifCond .ne 9, 3) := dk_154 0 9 (dk_at dksX3_ledger_0 14 rfl rfl)
theorem dX3_ledger_17 : decode cX3_ledger 17 = .ok (.aload_n 0, 1) := dk_42 (dk_at dksX3_ledger_0 17 rfl rfl)
theorem dX3_ledger_18 : decode cX3_ledger 18 = .ok (.iconst 1, 1) := dk_4 (dk_at dksX3_ledger_0 18 rfl rfl)
theorem dX3_ledger_19 : decode cX3_ledger 19 = .ok (.invokevirtual 193, 3) := dk_182 0 193 (dk_at dksX3_ledger_0 19 rfl rfl)
theorem dX3_ledger_22 : decode cX3_ledger 22 = .ok (.ireturn, 1) := dk_172 (dk_at dksX3_ledger_0 22 rfl rfl)
theorem dX3_ledger_23 : decode cX3_ledger 23 = .ok (.iload_n 3, 1) := dk_29 (dk_at dksX3_ledger_0 23 rfl rfl)
theorem dX3_ledger_24 : decode cX3_ledger 24 = .ok (.bipush 60, 2) := dk_16 60 (dk_at dksX3_ledger_1 0 rfl rfl)
theorem dX3_ledger_26 : decode cX3_ledger 26 = .ok (.if_icmp .le 6, 3) := dk_164 0 6 (dk_at dksX3_ledger_1 2 rfl rfl)
theorem dX3_ledger_29 : decode cX3_ledger 29 = .ok (.bipush (-102), 2) := dk_16 154 (dk_at dksX3_ledger_1 5 rfl rfl)
theorem dX3_ledger_31 : decode cX3_ledger 31 = .ok (.ireturn, 1) := dk_172 (dk_at dksX3_ledger_1 7 rfl rfl)
theorem dX3_ledger_32 : decode cX3_ledger 32 = .ok (.iload_n 3, 1) := dk_29 (dk_at dksX3_ledger_1 8 rfl rfl)
theorem dX3_ledger_33 : decode cX3_ledger 33 = .ok (.ifCond .ge 9, 3) := dk_156 0 9 (dk_at dksX3_ledger_1 9 rfl rfl)
theorem dX3_ledger_36 : decode cX3_ledger 36 = .ok (.aload_n 0, 1) := dk_42 (dk_at dksX3_ledger_1 12 rfl rfl)
theorem dX3_ledger_37 : decode cX3_ledger 37 = .ok (.iconst 2, 1) := dk_5 (dk_at dksX3_ledger_1 13 rfl rfl)
theorem dX3_ledger_38 : decode cX3_ledger 38 = .ok (.invokevirtual 193, 3) := dk_182 0 193 (dk_at dksX3_ledger_1 14 rfl rfl)
theorem dX3_ledger_41 : decode cX3_ledger 41 = .ok (.ireturn, 1) := dk_172 (dk_at dksX3_ledger_1 17 rfl rfl)
theorem dX3_ledger_42 : decode cX3_ledger 42 = .ok (.aload_n 0, 1) := dk_42 (dk_at dksX3_ledger_1 18 rfl rfl)
theorem dX3_ledger_43 : decode cX3_ledger 43 = .ok (.iload_n 1, 1) := dk_27 (dk_at dksX3_ledger_1 19 rfl rfl)
theorem dX3_ledger_44 : decode cX3_ledger 44 = .ok (.iload_n 2, 1) := dk_28 (dk_at dksX3_ledger_1 20 rfl rfl)
theorem dX3_ledger_45 : decode cX3_ledger 45 = .ok (.iload_n 3, 1) := dk_29 (dk_at dksX3_ledger_1 21 rfl rfl)
theorem dX3_ledger_46 : decode cX3_ledger 46 = .ok (.invokevirtual 196, 3) := dk_182 0 196 (dk_at dksX3_ledger_2 0 rfl rfl)
theorem dX3_ledger_49 : decode cX3_ledger 49 = .ok (.iload_n 3, 1) := dk_29 (dk_at dksX3_ledger_2 3 rfl rfl)
theorem dX3_ledger_50 : decode cX3_ledger 50 = .ok (.ireturn, 1) := dk_172 (dk_at dksX3_ledger_2 4 rfl rfl)
abbrev cX3_in : ByteArray := prog_27_method_3_code
def yX3_in : MethodName := ⟨RX3, "in", "(JJJ)Z"⟩
def dkwX3_in_0 : List UInt8 := [30, 32, 148, 155, 0, 14, 30, 22, 4, 148, 157, 0, 7, 4, 167, 0, 4, 3, 172]
abbrev dktX3_in_0 : List UInt8 := dkwX3_in_0 ++ []
theorem dksX3_in_0 : cX3_in.data.toList.drop 0 = dktX3_in_0 := by decide +kernel
theorem dX3_in_0 : decode cX3_in 0 = .ok (.lload_n 0, 1) := dk_30 (dk_at dksX3_in_0 0 rfl rfl)
theorem dX3_in_1 : decode cX3_in 1 = .ok (.lload_n 2, 1) := dk_32 (dk_at dksX3_in_0 1 rfl rfl)
theorem dX3_in_2 : decode cX3_in 2 = .ok (.lcmp, 1) := dk_148 (dk_at dksX3_in_0 2 rfl rfl)
theorem dX3_in_3 : decode cX3_in 3 = .ok (.ifCond .lt 14, 3) := dk_155 0 14 (dk_at dksX3_in_0 3 rfl rfl)
theorem dX3_in_6 : decode cX3_in 6 = .ok (.lload_n 0, 1) := dk_30 (dk_at dksX3_in_0 6 rfl rfl)
theorem dX3_in_7 : decode cX3_in 7 = .ok (.lload 4, 2) := dk_22 4 (dk_at dksX3_in_0 7 rfl rfl)
theorem dX3_in_9 : decode cX3_in 9 = .ok (.lcmp, 1) := dk_148 (dk_at dksX3_in_0 9 rfl rfl)
theorem dX3_in_10 : decode cX3_in 10 = .ok (.ifCond .gt 7, 3) := dk_157 0 7 (dk_at dksX3_in_0 10 rfl rfl)
theorem dX3_in_13 : decode cX3_in 13 = .ok (.iconst 1, 1) := dk_4 (dk_at dksX3_in_0 13 rfl rfl)
theorem dX3_in_14 : decode cX3_in 14 = .ok (.goto 4, 3) := dk_167 0 4 (dk_at dksX3_in_0 14 rfl rfl)
theorem dX3_in_17 : decode cX3_in 17 = .ok (.iconst 0, 1) := dk_3 (dk_at dksX3_in_0 17 rfl rfl)
theorem dX3_in_18 : decode cX3_in 18 = .ok (.ireturn, 1) := dk_172 (dk_at dksX3_in_0 18 rfl rfl)
abbrev cX3_raise : ByteArray := prog_27_method_4_code
def yX3_raise : MethodName := ⟨RX3, "raise", "(I)I"⟩
def dkwX3_raise_0 : List UInt8 := [42, 27, 181, 0, 94, 3, 172]
abbrev dktX3_raise_0 : List UInt8 := dkwX3_raise_0 ++ []
theorem dksX3_raise_0 : cX3_raise.data.toList.drop 0 = dktX3_raise_0 := by decide +kernel
theorem dX3_raise_0 : decode cX3_raise 0 = .ok (.aload_n 0, 1) := dk_42 (dk_at dksX3_raise_0 0 rfl rfl)
theorem dX3_raise_1 : decode cX3_raise 1 = .ok (.iload_n 1, 1) := dk_27 (dk_at dksX3_raise_0 1 rfl rfl)
theorem dX3_raise_2 : decode cX3_raise 2 = .ok (.putfield 94, 3) := dk_181 0 94 (dk_at dksX3_raise_0 2 rfl rfl)
theorem dX3_raise_5 : decode cX3_raise 5 = .ok (.iconst 0, 1) := dk_3 (dk_at dksX3_raise_0 5 rfl rfl)
theorem dX3_raise_6 : decode cX3_raise 6 = .ok (.ireturn, 1) := dk_172 (dk_at dksX3_raise_0 6 rfl rfl)
abbrev cX3_fresh : ByteArray := prog_27_method_27_code
def yX3_fresh : MethodName := ⟨RX3, "fresh", "(IZI)V"⟩
def dkwX3_fresh_2 : List UInt8 := [180, 0, 21, 21, 4, 3, 79, 42, 180, 0, 24, 21, 4, 3, 79, 132, 4, 1, 167, 255, 217, 177]
abbrev dktX3_fresh_2 : List UInt8 := dkwX3_fresh_2 ++ []
def dkwX3_fresh_1 : List UInt8 := [104, 54, 4, 21, 4, 16, 60, 27, 104, 16, 60, 96, 162, 0, 33, 42, 180, 0, 17, 21, 4, 14, 82, 42]
abbrev dktX3_fresh_1 : List UInt8 := dkwX3_fresh_1 ++ dktX3_fresh_2
def dkwX3_fresh_0 : List UInt8 := [42, 180, 0, 7, 27, 29, 79, 42, 180, 0, 13, 27, 28, 84, 42, 180, 0, 27, 27, 3, 79, 16, 60, 27]
abbrev dktX3_fresh_0 : List UInt8 := dkwX3_fresh_0 ++ dktX3_fresh_1
theorem dksX3_fresh_0 : cX3_fresh.data.toList.drop 0 = dktX3_fresh_0 := by decide +kernel
theorem dksX3_fresh_1 : cX3_fresh.data.toList.drop 24 = dktX3_fresh_1 := dk_seg dksX3_fresh_0 24 rfl rfl
theorem dksX3_fresh_2 : cX3_fresh.data.toList.drop 48 = dktX3_fresh_2 := dk_seg dksX3_fresh_1 24 rfl rfl
theorem dX3_fresh_0 : decode cX3_fresh 0 = .ok (.aload_n 0, 1) := dk_42 (dk_at dksX3_fresh_0 0 rfl rfl)
theorem dX3_fresh_1 : decode cX3_fresh 1 = .ok (.getfield 7, 3) := dk_180 0 7 (dk_at dksX3_fresh_0 1 rfl rfl)
theorem dX3_fresh_4 : decode cX3_fresh 4 = .ok (.iload_n 1, 1) := dk_27 (dk_at dksX3_fresh_0 4 rfl rfl)
theorem dX3_fresh_5 : decode cX3_fresh 5 = .ok (.iload_n 3, 1) := dk_29 (dk_at dksX3_fresh_0 5 rfl rfl)
theorem dX3_fresh_6 : decode cX3_fresh 6 = .ok (.iastore, 1) := dk_79 (dk_at dksX3_fresh_0 6 rfl rfl)
theorem dX3_fresh_7 : decode cX3_fresh 7 = .ok (.aload_n 0, 1) := dk_42 (dk_at dksX3_fresh_0 7 rfl rfl)
theorem dX3_fresh_8 : decode cX3_fresh 8 = .ok (.getfield 13, 3) := dk_180 0 13 (dk_at dksX3_fresh_0 8 rfl rfl)
theorem dX3_fresh_11 : decode cX3_fresh 11 = .ok (.iload_n 1, 1) := dk_27 (dk_at dksX3_fresh_0 11 rfl rfl)
theorem dX3_fresh_12 : decode cX3_fresh 12 = .ok (.iload_n 2, 1) := dk_28 (dk_at dksX3_fresh_0 12 rfl rfl)
theorem dX3_fresh_13 : decode cX3_fresh 13 = .ok (.bastore, 1) := dk_84 (dk_at dksX3_fresh_0 13 rfl rfl)
theorem dX3_fresh_14 : decode cX3_fresh 14 = .ok (.aload_n 0, 1) := dk_42 (dk_at dksX3_fresh_0 14 rfl rfl)
theorem dX3_fresh_15 : decode cX3_fresh 15 = .ok (.getfield 27, 3) := dk_180 0 27 (dk_at dksX3_fresh_0 15 rfl rfl)
theorem dX3_fresh_18 : decode cX3_fresh 18 = .ok (.iload_n 1, 1) := dk_27 (dk_at dksX3_fresh_0 18 rfl rfl)
theorem dX3_fresh_19 : decode cX3_fresh 19 = .ok (.iconst 0, 1) := dk_3 (dk_at dksX3_fresh_0 19 rfl rfl)
theorem dX3_fresh_20 : decode cX3_fresh 20 = .ok (.iastore, 1) := dk_79 (dk_at dksX3_fresh_0 20 rfl rfl)
theorem dX3_fresh_21 : decode cX3_fresh 21 = .ok (.bipush 60, 2) := dk_16 60 (dk_at dksX3_fresh_0 21 rfl rfl)
theorem dX3_fresh_23 : decode cX3_fresh 23 = .ok (.iload_n 1, 1) := dk_27 (dk_at dksX3_fresh_0 23 rfl rfl)
theorem dX3_fresh_24 : decode cX3_fresh 24 = .ok (.imul, 1) := dk_104 (dk_at dksX3_fresh_1 0 rfl rfl)
theorem dX3_fresh_25 : decode cX3_fresh 25 = .ok (.istore 4, 2) := dk_54 4 (dk_at dksX3_fresh_1 1 rfl rfl)
theorem dX3_fresh_27 : decode cX3_fresh 27 = .ok (.iload 4, 2) := dk_21 4 (dk_at dksX3_fresh_1 3 rfl rfl)
theorem dX3_fresh_29 : decode cX3_fresh 29 = .ok (.bipush 60, 2) := dk_16 60 (dk_at dksX3_fresh_1 5 rfl rfl)
theorem dX3_fresh_31 : decode cX3_fresh 31 = .ok (.iload_n 1, 1) := dk_27 (dk_at dksX3_fresh_1 7 rfl rfl)
theorem dX3_fresh_32 : decode cX3_fresh 32 = .ok (.imul, 1) := dk_104 (dk_at dksX3_fresh_1 8 rfl rfl)
theorem dX3_fresh_33 : decode cX3_fresh 33 = .ok (.bipush 60, 2) := dk_16 60 (dk_at dksX3_fresh_1 9 rfl rfl)
theorem dX3_fresh_35 : decode cX3_fresh 35 = .ok (.iadd, 1) := dk_96 (dk_at dksX3_fresh_1 11 rfl rfl)
theorem dX3_fresh_36 : decode cX3_fresh 36 = .ok (.if_icmp .ge 33, 3) := dk_162 0 33 (dk_at dksX3_fresh_1 12 rfl rfl)
theorem dX3_fresh_39 : decode cX3_fresh 39 = .ok (.aload_n 0, 1) := dk_42 (dk_at dksX3_fresh_1 15 rfl rfl)
theorem dX3_fresh_40 : decode cX3_fresh 40 = .ok (.getfield 17, 3) := dk_180 0 17 (dk_at dksX3_fresh_1 16 rfl rfl)
theorem dX3_fresh_43 : decode cX3_fresh 43 = .ok (.iload 4, 2) := dk_21 4 (dk_at dksX3_fresh_1 19 rfl rfl)
theorem dX3_fresh_45 : decode cX3_fresh 45 = .ok (.dconst 0, 1) := dk_14 (dk_at dksX3_fresh_1 21 rfl rfl)
theorem dX3_fresh_46 : decode cX3_fresh 46 = .ok (.dastore, 1) := dk_82 (dk_at dksX3_fresh_1 22 rfl rfl)
theorem dX3_fresh_47 : decode cX3_fresh 47 = .ok (.aload_n 0, 1) := dk_42 (dk_at dksX3_fresh_1 23 rfl rfl)
theorem dX3_fresh_48 : decode cX3_fresh 48 = .ok (.getfield 21, 3) := dk_180 0 21 (dk_at dksX3_fresh_2 0 rfl rfl)
theorem dX3_fresh_51 : decode cX3_fresh 51 = .ok (.iload 4, 2) := dk_21 4 (dk_at dksX3_fresh_2 3 rfl rfl)
theorem dX3_fresh_53 : decode cX3_fresh 53 = .ok (.iconst 0, 1) := dk_3 (dk_at dksX3_fresh_2 5 rfl rfl)
theorem dX3_fresh_54 : decode cX3_fresh 54 = .ok (.iastore, 1) := dk_79 (dk_at dksX3_fresh_2 6 rfl rfl)
theorem dX3_fresh_55 : decode cX3_fresh 55 = .ok (.aload_n 0, 1) := dk_42 (dk_at dksX3_fresh_2 7 rfl rfl)
theorem dX3_fresh_56 : decode cX3_fresh 56 = .ok (.getfield 24, 3) := dk_180 0 24 (dk_at dksX3_fresh_2 8 rfl rfl)
theorem dX3_fresh_59 : decode cX3_fresh 59 = .ok (.iload 4, 2) := dk_21 4 (dk_at dksX3_fresh_2 11 rfl rfl)
theorem dX3_fresh_61 : decode cX3_fresh 61 = .ok (.iconst 0, 1) := dk_3 (dk_at dksX3_fresh_2 13 rfl rfl)
theorem dX3_fresh_62 : decode cX3_fresh 62 = .ok (.iastore, 1) := dk_79 (dk_at dksX3_fresh_2 14 rfl rfl)
theorem dX3_fresh_63 : decode cX3_fresh 63 = .ok (.iinc 4 1, 3) := dk_132 4 1 (dk_at dksX3_fresh_2 15 rfl rfl)
theorem dX3_fresh_66 : decode cX3_fresh 66 = .ok (.goto (-39), 3) := dk_167 255 217 (dk_at dksX3_fresh_2 18 rfl rfl)
theorem dX3_fresh_69 : decode cX3_fresh 69 = .ok (.return_, 1) := dk_177 (dk_at dksX3_fresh_2 21 rfl rfl)
abbrev cX3_set : ByteArray := prog_27_method_29_code
def yX3_set : MethodName := ⟨RX3, "set", "(IIJ)I"⟩
def dkwX3_set_6 : List UInt8 := [172]
abbrev dktX3_set_6 : List UInt8 := dkwX3_set_6 ++ []
def dkwX3_set_5 : List UInt8 := [20, 0, 210, 152, 156, 0, 6, 16, 154, 172, 42, 180, 0, 17, 16, 60, 27, 104, 28, 96, 24, 6, 82, 4]
abbrev dktX3_set_5 : List UInt8 := dkwX3_set_5 ++ dktX3_set_6
def dkwX3_set_4 : List UInt8 := [167, 0, 9, 33, 136, 184, 0, 204, 141, 57, 6, 24, 6, 20, 0, 208, 151, 157, 0, 12, 24, 6]
abbrev dktX3_set_4 : List UInt8 := dkwX3_set_4 ++ dktX3_set_5
def dkwX3_set_3 : List UInt8 := [54, 5, 21, 5, 154, 0, 6, 16, 154, 172, 42, 180, 0, 13, 27, 51, 153, 0, 10, 33, 184, 0, 154]
abbrev dktX3_set_3 : List UInt8 := dkwX3_set_3 ++ dktX3_set_4
def dkwX3_set_2 : List UInt8 := [167, 0, 23, 33, 136, 16, 23, 122, 17, 0, 255, 126, 17, 0, 255, 159, 0, 7, 4, 167, 0, 4, 3]
abbrev dktX3_set_2 : List UInt8 := dkwX3_set_2 ++ dktX3_set_3
def dkwX3_set_1 : List UInt8 := [51, 153, 0, 26, 33, 16, 52, 123, 20, 0, 119, 127, 20, 0, 119, 148, 153, 0, 7, 4, 167, 0, 27, 3]
abbrev dktX3_set_1 : List UInt8 := dkwX3_set_1 ++ dktX3_set_2
def dkwX3_set_0 : List UInt8 := [42, 42, 27, 28, 182, 0, 200, 181, 0, 94, 42, 180, 0, 94, 153, 0, 5, 3, 172, 42, 180, 0, 13, 27]
abbrev dktX3_set_0 : List UInt8 := dkwX3_set_0 ++ dktX3_set_1
theorem dksX3_set_0 : cX3_set.data.toList.drop 0 = dktX3_set_0 := by decide +kernel
theorem dksX3_set_1 : cX3_set.data.toList.drop 24 = dktX3_set_1 := dk_seg dksX3_set_0 24 rfl rfl
theorem dksX3_set_2 : cX3_set.data.toList.drop 48 = dktX3_set_2 := dk_seg dksX3_set_1 24 rfl rfl
theorem dksX3_set_3 : cX3_set.data.toList.drop 71 = dktX3_set_3 := dk_seg dksX3_set_2 23 rfl rfl
theorem dksX3_set_4 : cX3_set.data.toList.drop 94 = dktX3_set_4 := dk_seg dksX3_set_3 23 rfl rfl
theorem dksX3_set_5 : cX3_set.data.toList.drop 116 = dktX3_set_5 := dk_seg dksX3_set_4 22 rfl rfl
theorem dksX3_set_6 : cX3_set.data.toList.drop 140 = dktX3_set_6 := dk_seg dksX3_set_5 24 rfl rfl
theorem dX3_set_0 : decode cX3_set 0 = .ok (.aload_n 0, 1) := dk_42 (dk_at dksX3_set_0 0 rfl rfl)
theorem dX3_set_1 : decode cX3_set 1 = .ok (.aload_n 0, 1) := dk_42 (dk_at dksX3_set_0 1 rfl rfl)
theorem dX3_set_2 : decode cX3_set 2 = .ok (.iload_n 1, 1) := dk_27 (dk_at dksX3_set_0 2 rfl rfl)
theorem dX3_set_3 : decode cX3_set 3 = .ok (.iload_n 2, 1) := dk_28 (dk_at dksX3_set_0 3 rfl rfl)
theorem dX3_set_4 : decode cX3_set 4 = .ok (.invokevirtual 200, 3) := dk_182 0 200 (dk_at dksX3_set_0 4 rfl rfl)
theorem dX3_set_7 : decode cX3_set 7 = .ok (.putfield 94, 3) := dk_181 0 94 (dk_at dksX3_set_0 7 rfl rfl)
theorem dX3_set_10 : decode cX3_set 10 = .ok (.aload_n 0, 1) := dk_42 (dk_at dksX3_set_0 10 rfl rfl)
theorem dX3_set_11 : decode cX3_set 11 = .ok (.getfield 94, 3) := dk_180 0 94 (dk_at dksX3_set_0 11 rfl rfl)
theorem dX3_set_14 : decode cX3_set 14 = .ok (.ifCond .eq 5, 3) := dk_153 0 5 (dk_at dksX3_set_0 14 rfl rfl)
theorem dX3_set_17 : decode cX3_set 17 = .ok (.iconst 0, 1) := dk_3 (dk_at dksX3_set_0 17 rfl rfl)
theorem dX3_set_18 : decode cX3_set 18 = .ok (.ireturn, 1) := dk_172 (dk_at dksX3_set_0 18 rfl rfl)
theorem dX3_set_19 : decode cX3_set 19 = .ok (.aload_n 0, 1) := dk_42 (dk_at dksX3_set_0 19 rfl rfl)
theorem dX3_set_20 : decode cX3_set 20 = .ok (.getfield 13, 3) := dk_180 0 13 (dk_at dksX3_set_0 20 rfl rfl)
theorem dX3_set_23 : decode cX3_set 23 = .ok (.iload_n 1, 1) := dk_27 (dk_at dksX3_set_0 23 rfl rfl)
theorem dX3_set_24 : decode cX3_set 24 = .ok (.baload, 1) := dk_51 (dk_at dksX3_set_1 0 rfl rfl)
theorem dX3_set_25 : decode cX3_set 25 = .ok (.ifCond .eq 26, 3) := dk_153 0 26 (dk_at dksX3_set_1 1 rfl rfl)
theorem dX3_set_28 : decode cX3_set 28 = .ok (.lload_n 3, 1) := dk_33 (dk_at dksX3_set_1 4 rfl rfl)
theorem dX3_set_29 : decode cX3_set 29 = .ok (.bipush 52, 2) := dk_16 52 (dk_at dksX3_set_1 5 rfl rfl)
theorem dX3_set_31 : decode cX3_set 31 = .ok (.lshr, 1) := dk_123 (dk_at dksX3_set_1 7 rfl rfl)
theorem dX3_set_32 : decode cX3_set 32 = .ok (.ldc2_w 119, 3) := dk_20 0 119 (dk_at dksX3_set_1 8 rfl rfl)
theorem dX3_set_35 : decode cX3_set 35 = .ok (.land, 1) := dk_127 (dk_at dksX3_set_1 11 rfl rfl)
theorem dX3_set_36 : decode cX3_set 36 = .ok (.ldc2_w 119, 3) := dk_20 0 119 (dk_at dksX3_set_1 12 rfl rfl)
theorem dX3_set_39 : decode cX3_set 39 = .ok (.lcmp, 1) := dk_148 (dk_at dksX3_set_1 15 rfl rfl)
theorem dX3_set_40 : decode cX3_set 40 = .ok (.ifCond .eq 7, 3) := dk_153 0 7 (dk_at dksX3_set_1 16 rfl rfl)
theorem dX3_set_43 : decode cX3_set 43 = .ok (.iconst 1, 1) := dk_4 (dk_at dksX3_set_1 19 rfl rfl)
theorem dX3_set_44 : decode cX3_set 44 = .ok (.goto 27, 3) := dk_167 0 27 (dk_at dksX3_set_1 20 rfl rfl)
theorem dX3_set_47 : decode cX3_set 47 = .ok (.iconst 0, 1) := dk_3 (dk_at dksX3_set_1 23 rfl rfl)
theorem dX3_set_48 : decode cX3_set 48 = .ok (.goto 23, 3) := dk_167 0 23 (dk_at dksX3_set_2 0 rfl rfl)
theorem dX3_set_51 : decode cX3_set 51 = .ok (.lload_n 3, 1) := dk_33 (dk_at dksX3_set_2 3 rfl rfl)
theorem dX3_set_52 : decode cX3_set 52 = .ok (.l2i, 1) := dk_136 (dk_at dksX3_set_2 4 rfl rfl)
theorem dX3_set_53 : decode cX3_set 53 = .ok (.bipush 23, 2) := dk_16 23 (dk_at dksX3_set_2 5 rfl rfl)
theorem dX3_set_55 : decode cX3_set 55 = .ok (.ishr, 1) := dk_122 (dk_at dksX3_set_2 7 rfl rfl)
theorem dX3_set_56 : decode cX3_set 56 = .ok (.sipush 255, 3) := dk_17 0 255 (dk_at dksX3_set_2 8 rfl rfl)
theorem dX3_set_59 : decode cX3_set 59 = .ok (.iand, 1) := dk_126 (dk_at dksX3_set_2 11 rfl rfl)
theorem dX3_set_60 : decode cX3_set 60 = .ok (.sipush 255, 3) := dk_17 0 255 (dk_at dksX3_set_2 12 rfl rfl)
theorem dX3_set_63 : decode cX3_set 63 = .ok (.if_icmp .eq 7, 3) := dk_159 0 7 (dk_at dksX3_set_2 15 rfl rfl)
theorem dX3_set_66 : decode cX3_set 66 = .ok (.iconst 1, 1) := dk_4 (dk_at dksX3_set_2 18 rfl rfl)
theorem dX3_set_67 : decode cX3_set 67 = .ok (.goto 4, 3) := dk_167 0 4 (dk_at dksX3_set_2 19 rfl rfl)
theorem dX3_set_70 : decode cX3_set 70 = .ok (.iconst 0, 1) := dk_3 (dk_at dksX3_set_2 22 rfl rfl)
theorem dX3_set_71 : decode cX3_set 71 = .ok (.istore 5, 2) := dk_54 5 (dk_at dksX3_set_3 0 rfl rfl)
theorem dX3_set_73 : decode cX3_set 73 = .ok (.iload 5, 2) := dk_21 5 (dk_at dksX3_set_3 2 rfl rfl)
theorem dX3_set_75 : decode cX3_set 75 = .ok (.ifCond .ne 6, 3) := dk_154 0 6 (dk_at dksX3_set_3 4 rfl rfl)
theorem dX3_set_78 : decode cX3_set 78 = .ok (.bipush (-102), 2) := dk_16 154 (dk_at dksX3_set_3 7 rfl rfl)
theorem dX3_set_80 : decode cX3_set 80 = .ok (.ireturn, 1) := dk_172 (dk_at dksX3_set_3 9 rfl rfl)
theorem dX3_set_81 : decode cX3_set 81 = .ok (.aload_n 0, 1) := dk_42 (dk_at dksX3_set_3 10 rfl rfl)
theorem dX3_set_82 : decode cX3_set 82 = .ok (.getfield 13, 3) := dk_180 0 13 (dk_at dksX3_set_3 11 rfl rfl)
theorem dX3_set_85 : decode cX3_set 85 = .ok (.iload_n 1, 1) := dk_27 (dk_at dksX3_set_3 14 rfl rfl)
theorem dX3_set_86 : decode cX3_set 86 = .ok (.baload, 1) := dk_51 (dk_at dksX3_set_3 15 rfl rfl)
theorem dX3_set_87 : decode cX3_set 87 = .ok (.ifCond .eq 10, 3) := dk_153 0 10 (dk_at dksX3_set_3 16 rfl rfl)
theorem dX3_set_90 : decode cX3_set 90 = .ok (.lload_n 3, 1) := dk_33 (dk_at dksX3_set_3 19 rfl rfl)
theorem dX3_set_91 : decode cX3_set 91 = .ok (.invokestatic 154, 3) := dk_184 0 154 (dk_at dksX3_set_3 20 rfl rfl)
theorem dX3_set_94 : decode cX3_set 94 = .ok (.goto 9, 3) := dk_167 0 9 (dk_at dksX3_set_4 0 rfl rfl)
theorem dX3_set_97 : decode cX3_set 97 = .ok (.lload_n 3, 1) := dk_33 (dk_at dksX3_set_4 3 rfl rfl)
theorem dX3_set_98 : decode cX3_set 98 = .ok (.l2i, 1) := dk_136 (dk_at dksX3_set_4 4 rfl rfl)
theorem dX3_set_99 : decode cX3_set 99 = .ok (.invokestatic 204, 3) := dk_184 0 204 (dk_at dksX3_set_4 5 rfl rfl)
theorem dX3_set_102 : decode cX3_set 102 = .ok (.f2d, 1) := dk_141 (dk_at dksX3_set_4 8 rfl rfl)
theorem dX3_set_103 : decode cX3_set 103 = .ok (.dstore 6, 2) := dk_57 6 (dk_at dksX3_set_4 9 rfl rfl)
theorem dX3_set_105 : decode cX3_set 105 = .ok (.dload 6, 2) := dk_24 6 (dk_at dksX3_set_4 11 rfl rfl)
theorem dX3_set_107 : decode cX3_set 107 = .ok (.ldc2_w 208, 3) := dk_20 0 208 (dk_at dksX3_set_4 13 rfl rfl)
theorem dX3_set_110 : decode cX3_set 110 = .ok (.dcmp .l, 1) := dk_151 (dk_at dksX3_set_4 16 rfl rfl)
theorem dX3_set_111 : decode cX3_set 111 = .ok (.ifCond .gt 12, 3) := dk_157 0 12 (dk_at dksX3_set_4 17 rfl rfl)
theorem dX3_set_114 : decode cX3_set 114 = .ok (.dload 6, 2) := dk_24 6 (dk_at dksX3_set_4 20 rfl rfl)
theorem dX3_set_116 : decode cX3_set 116 = .ok (.ldc2_w 210, 3) := dk_20 0 210 (dk_at dksX3_set_5 0 rfl rfl)
theorem dX3_set_119 : decode cX3_set 119 = .ok (.dcmp .g, 1) := dk_152 (dk_at dksX3_set_5 3 rfl rfl)
theorem dX3_set_120 : decode cX3_set 120 = .ok (.ifCond .ge 6, 3) := dk_156 0 6 (dk_at dksX3_set_5 4 rfl rfl)
theorem dX3_set_123 : decode cX3_set 123 = .ok (.bipush (-102), 2) := dk_16 154 (dk_at dksX3_set_5 7 rfl rfl)
theorem dX3_set_125 : decode cX3_set 125 = .ok (.ireturn, 1) := dk_172 (dk_at dksX3_set_5 9 rfl rfl)
theorem dX3_set_126 : decode cX3_set 126 = .ok (.aload_n 0, 1) := dk_42 (dk_at dksX3_set_5 10 rfl rfl)
theorem dX3_set_127 : decode cX3_set 127 = .ok (.getfield 17, 3) := dk_180 0 17 (dk_at dksX3_set_5 11 rfl rfl)
theorem dX3_set_130 : decode cX3_set 130 = .ok (.bipush 60, 2) := dk_16 60 (dk_at dksX3_set_5 14 rfl rfl)
theorem dX3_set_132 : decode cX3_set 132 = .ok (.iload_n 1, 1) := dk_27 (dk_at dksX3_set_5 16 rfl rfl)
theorem dX3_set_133 : decode cX3_set 133 = .ok (.imul, 1) := dk_104 (dk_at dksX3_set_5 17 rfl rfl)
theorem dX3_set_134 : decode cX3_set 134 = .ok (.iload_n 2, 1) := dk_28 (dk_at dksX3_set_5 18 rfl rfl)
theorem dX3_set_135 : decode cX3_set 135 = .ok (.iadd, 1) := dk_96 (dk_at dksX3_set_5 19 rfl rfl)
theorem dX3_set_136 : decode cX3_set 136 = .ok (.dload 6, 2) := dk_24 6 (dk_at dksX3_set_5 20 rfl rfl)
theorem dX3_set_138 : decode cX3_set 138 = .ok (.dastore, 1) := dk_82 (dk_at dksX3_set_5 22 rfl rfl)
theorem dX3_set_139 : decode cX3_set 139 = .ok (.iconst 1, 1) := dk_4 (dk_at dksX3_set_5 23 rfl rfl)
theorem dX3_set_140 : decode cX3_set 140 = .ok (.ireturn, 1) := dk_172 (dk_at dksX3_set_6 0 rfl rfl)
abbrev cX3_faultAt : ByteArray := prog_27_method_6_code
def yX3_faultAt : MethodName := ⟨RX3, "faultAt", "(II)I"⟩
def dkwX3_faultAt_1 : List UInt8 := [100, 133, 184, 0, 99, 153, 0, 7, 3, 167, 0, 4, 5, 172]
abbrev dktX3_faultAt_1 : List UInt8 := dkwX3_faultAt_1 ++ []
def dkwX3_faultAt_0 : List UInt8 := [42, 27, 182, 0, 103, 62, 29, 153, 0, 7, 29, 167, 0, 26, 28, 133, 9, 42, 180, 0, 7, 27, 46, 4]
abbrev dktX3_faultAt_0 : List UInt8 := dkwX3_faultAt_0 ++ dktX3_faultAt_1
theorem dksX3_faultAt_0 : cX3_faultAt.data.toList.drop 0 = dktX3_faultAt_0 := by decide +kernel
theorem dksX3_faultAt_1 : cX3_faultAt.data.toList.drop 24 = dktX3_faultAt_1 := dk_seg dksX3_faultAt_0 24 rfl rfl
theorem dX3_faultAt_0 : decode cX3_faultAt 0 = .ok (.aload_n 0, 1) := dk_42 (dk_at dksX3_faultAt_0 0 rfl rfl)
theorem dX3_faultAt_1 : decode cX3_faultAt 1 = .ok (.iload_n 1, 1) := dk_27 (dk_at dksX3_faultAt_0 1 rfl rfl)
theorem dX3_faultAt_2 : decode cX3_faultAt 2 = .ok (.invokevirtual 103, 3) := dk_182 0 103 (dk_at dksX3_faultAt_0 2 rfl rfl)
theorem dX3_faultAt_5 : decode cX3_faultAt 5 = .ok (.istore_n 3, 1) := dk_62 (dk_at dksX3_faultAt_0 5 rfl rfl)
theorem dX3_faultAt_6 : decode cX3_faultAt 6 = .ok (.iload_n 3, 1) := dk_29 (dk_at dksX3_faultAt_0 6 rfl rfl)
theorem dX3_faultAt_7 : decode cX3_faultAt 7 = .ok (.ifCond .eq 7, 3) := dk_153 0 7 (dk_at dksX3_faultAt_0 7 rfl rfl)
theorem dX3_faultAt_10 : decode cX3_faultAt 10 = .ok (.iload_n 3, 1) := dk_29 (dk_at dksX3_faultAt_0 10 rfl rfl)
theorem dX3_faultAt_11 : decode cX3_faultAt 11 = .ok (.goto 26, 3) := dk_167 0 26 (dk_at dksX3_faultAt_0 11 rfl rfl)
theorem dX3_faultAt_14 : decode cX3_faultAt 14 = .ok (.iload_n 2, 1) := dk_28 (dk_at dksX3_faultAt_0 14 rfl rfl)
theorem dX3_faultAt_15 : decode cX3_faultAt 15 = .ok (.i2l, 1) := dk_133 (dk_at dksX3_faultAt_0 15 rfl rfl)
theorem dX3_faultAt_16 : decode cX3_faultAt 16 = .ok (.lconst 0, 1) := dk_9 (dk_at dksX3_faultAt_0 16 rfl rfl)
theorem dX3_faultAt_17 : decode cX3_faultAt 17 = .ok (.aload_n 0, 1) := dk_42 (dk_at dksX3_faultAt_0 17 rfl rfl)
theorem dX3_faultAt_18 : decode cX3_faultAt 18 = .ok (.getfield 7, 3) := dk_180 0 7 (dk_at dksX3_faultAt_0 18 rfl rfl)
theorem dX3_faultAt_21 : decode cX3_faultAt 21 = .ok (.iload_n 1, 1) := dk_27 (dk_at dksX3_faultAt_0 21 rfl rfl)
theorem dX3_faultAt_22 : decode cX3_faultAt 22 = .ok (.iaload, 1) := dk_46 (dk_at dksX3_faultAt_0 22 rfl rfl)
theorem dX3_faultAt_23 : decode cX3_faultAt 23 = .ok (.iconst 1, 1) := dk_4 (dk_at dksX3_faultAt_0 23 rfl rfl)
theorem dX3_faultAt_24 : decode cX3_faultAt 24 = .ok (.isub, 1) := dk_100 (dk_at dksX3_faultAt_1 0 rfl rfl)
theorem dX3_faultAt_25 : decode cX3_faultAt 25 = .ok (.i2l, 1) := dk_133 (dk_at dksX3_faultAt_1 1 rfl rfl)
theorem dX3_faultAt_26 : decode cX3_faultAt 26 = .ok (.invokestatic 99, 3) := dk_184 0 99 (dk_at dksX3_faultAt_1 2 rfl rfl)
theorem dX3_faultAt_29 : decode cX3_faultAt 29 = .ok (.ifCond .eq 7, 3) := dk_153 0 7 (dk_at dksX3_faultAt_1 5 rfl rfl)
theorem dX3_faultAt_32 : decode cX3_faultAt 32 = .ok (.iconst 0, 1) := dk_3 (dk_at dksX3_faultAt_1 8 rfl rfl)
theorem dX3_faultAt_33 : decode cX3_faultAt 33 = .ok (.goto 4, 3) := dk_167 0 4 (dk_at dksX3_faultAt_1 9 rfl rfl)
theorem dX3_faultAt_36 : decode cX3_faultAt 36 = .ok (.iconst 2, 1) := dk_5 (dk_at dksX3_faultAt_1 12 rfl rfl)
theorem dX3_faultAt_37 : decode cX3_faultAt 37 = .ok (.ireturn, 1) := dk_172 (dk_at dksX3_faultAt_1 13 rfl rfl)
abbrev cX3_faultOf : ByteArray := prog_27_method_5_code
def yX3_faultOf : MethodName := ⟨RX3, "faultOf", "(I)I"⟩
def dkwX3_faultOf_1 : List UInt8 := [156, 0, 7, 4, 167, 0, 4, 3, 172]
abbrev dktX3_faultOf_1 : List UInt8 := dkwX3_faultOf_1 ++ []
def dkwX3_faultOf_0 : List UInt8 := [27, 133, 9, 20, 0, 97, 184, 0, 99, 154, 0, 7, 5, 167, 0, 17, 42, 180, 0, 7, 27, 46]
abbrev dktX3_faultOf_0 : List UInt8 := dkwX3_faultOf_0 ++ dktX3_faultOf_1
theorem dksX3_faultOf_0 : cX3_faultOf.data.toList.drop 0 = dktX3_faultOf_0 := by decide +kernel
theorem dksX3_faultOf_1 : cX3_faultOf.data.toList.drop 22 = dktX3_faultOf_1 := dk_seg dksX3_faultOf_0 22 rfl rfl
theorem dX3_faultOf_0 : decode cX3_faultOf 0 = .ok (.iload_n 1, 1) := dk_27 (dk_at dksX3_faultOf_0 0 rfl rfl)
theorem dX3_faultOf_1 : decode cX3_faultOf 1 = .ok (.i2l, 1) := dk_133 (dk_at dksX3_faultOf_0 1 rfl rfl)
theorem dX3_faultOf_2 : decode cX3_faultOf 2 = .ok (.lconst 0, 1) := dk_9 (dk_at dksX3_faultOf_0 2 rfl rfl)
theorem dX3_faultOf_3 : decode cX3_faultOf 3 = .ok (.ldc2_w 97, 3) := dk_20 0 97 (dk_at dksX3_faultOf_0 3 rfl rfl)
theorem dX3_faultOf_6 : decode cX3_faultOf 6 = .ok (.invokestatic 99, 3) := dk_184 0 99 (dk_at dksX3_faultOf_0 6 rfl rfl)
theorem dX3_faultOf_9 : decode cX3_faultOf 9 = .ok (.ifCond .ne 7, 3) := dk_154 0 7 (dk_at dksX3_faultOf_0 9 rfl rfl)
theorem dX3_faultOf_12 : decode cX3_faultOf 12 = .ok (.iconst 2, 1) := dk_5 (dk_at dksX3_faultOf_0 12 rfl rfl)
theorem dX3_faultOf_13 : decode cX3_faultOf 13 = .ok (.goto 17, 3) := dk_167 0 17 (dk_at dksX3_faultOf_0 13 rfl rfl)
theorem dX3_faultOf_16 : decode cX3_faultOf 16 = .ok (.aload_n 0, 1) := dk_42 (dk_at dksX3_faultOf_0 16 rfl rfl)
theorem dX3_faultOf_17 : decode cX3_faultOf 17 = .ok (.getfield 7, 3) := dk_180 0 7 (dk_at dksX3_faultOf_0 17 rfl rfl)
theorem dX3_faultOf_20 : decode cX3_faultOf 20 = .ok (.iload_n 1, 1) := dk_27 (dk_at dksX3_faultOf_0 20 rfl rfl)
theorem dX3_faultOf_21 : decode cX3_faultOf 21 = .ok (.iaload, 1) := dk_46 (dk_at dksX3_faultOf_0 21 rfl rfl)
theorem dX3_faultOf_22 : decode cX3_faultOf 22 = .ok (.ifCond .ge 7, 3) := dk_156 0 7 (dk_at dksX3_faultOf_1 0 rfl rfl)
theorem dX3_faultOf_25 : decode cX3_faultOf 25 = .ok (.iconst 1, 1) := dk_4 (dk_at dksX3_faultOf_1 3 rfl rfl)
theorem dX3_faultOf_26 : decode cX3_faultOf 26 = .ok (.goto 4, 3) := dk_167 0 4 (dk_at dksX3_faultOf_1 4 rfl rfl)
theorem dX3_faultOf_29 : decode cX3_faultOf 29 = .ok (.iconst 0, 1) := dk_3 (dk_at dksX3_faultOf_1 7 rfl rfl)
theorem dX3_faultOf_30 : decode cX3_faultOf 30 = .ok (.ireturn, 1) := dk_172 (dk_at dksX3_faultOf_1 8 rfl rfl)
abbrev cX3_book : ByteArray := prog_27_method_30_code
def yX3_book : MethodName := ⟨RX3, "book", "(IIII)I"⟩
def dkwX3_book_3 : List UInt8 := [104, 28, 96, 21, 4, 79, 4, 172]
abbrev dktX3_book_3 : List UInt8 := dkwX3_book_3 ++ []
def dkwX3_book_2 : List UInt8 := [153, 0, 5, 3, 172, 42, 180, 0, 21, 16, 60, 27, 104, 28, 96, 29, 79, 42, 180, 0, 24, 16, 60, 27]
abbrev dktX3_book_2 : List UInt8 := dkwX3_book_2 ++ dktX3_book_3
def dkwX3_book_1 : List UInt8 := [184, 0, 99, 154, 0, 6, 16, 154, 172, 42, 42, 27, 28, 182, 0, 200, 181, 0, 94, 42, 180, 0, 94]
abbrev dktX3_book_1 : List UInt8 := dkwX3_book_1 ++ dktX3_book_2
def dkwX3_book_0 : List UInt8 := [42, 3, 181, 0, 94, 29, 133, 9, 20, 0, 212, 184, 0, 99, 153, 0, 16, 21, 4, 133, 9, 20, 0, 214]
abbrev dktX3_book_0 : List UInt8 := dkwX3_book_0 ++ dktX3_book_1
theorem dksX3_book_0 : cX3_book.data.toList.drop 0 = dktX3_book_0 := by decide +kernel
theorem dksX3_book_1 : cX3_book.data.toList.drop 24 = dktX3_book_1 := dk_seg dksX3_book_0 24 rfl rfl
theorem dksX3_book_2 : cX3_book.data.toList.drop 47 = dktX3_book_2 := dk_seg dksX3_book_1 23 rfl rfl
theorem dksX3_book_3 : cX3_book.data.toList.drop 71 = dktX3_book_3 := dk_seg dksX3_book_2 24 rfl rfl
theorem dX3_book_0 : decode cX3_book 0 = .ok (.aload_n 0, 1) := dk_42 (dk_at dksX3_book_0 0 rfl rfl)
theorem dX3_book_1 : decode cX3_book 1 = .ok (.iconst 0, 1) := dk_3 (dk_at dksX3_book_0 1 rfl rfl)
theorem dX3_book_2 : decode cX3_book 2 = .ok (.putfield 94, 3) := dk_181 0 94 (dk_at dksX3_book_0 2 rfl rfl)
theorem dX3_book_5 : decode cX3_book 5 = .ok (.iload_n 3, 1) := dk_29 (dk_at dksX3_book_0 5 rfl rfl)
theorem dX3_book_6 : decode cX3_book 6 = .ok (.i2l, 1) := dk_133 (dk_at dksX3_book_0 6 rfl rfl)
theorem dX3_book_7 : decode cX3_book 7 = .ok (.lconst 0, 1) := dk_9 (dk_at dksX3_book_0 7 rfl rfl)
theorem dX3_book_8 : decode cX3_book 8 = .ok (.ldc2_w 212, 3) := dk_20 0 212 (dk_at dksX3_book_0 8 rfl rfl)
theorem dX3_book_11 : decode cX3_book 11 = .ok (.invokestatic 99, 3) := dk_184 0 99 (dk_at dksX3_book_0 11 rfl rfl)
theorem dX3_book_14 : decode cX3_book 14 = .ok (.ifCond .eq 16, 3) := dk_153 0 16 (dk_at dksX3_book_0 14 rfl rfl)
theorem dX3_book_17 : decode cX3_book 17 = .ok (.iload 4, 2) := dk_21 4 (dk_at dksX3_book_0 17 rfl rfl)
theorem dX3_book_19 : decode cX3_book 19 = .ok (.i2l, 1) := dk_133 (dk_at dksX3_book_0 19 rfl rfl)
theorem dX3_book_20 : decode cX3_book 20 = .ok (.lconst 0, 1) := dk_9 (dk_at dksX3_book_0 20 rfl rfl)
theorem dX3_book_21 : decode cX3_book 21 = .ok (.ldc2_w 214, 3) := dk_20 0 214 (dk_at dksX3_book_0 21 rfl rfl)
theorem dX3_book_24 : decode cX3_book 24 = .ok (.invokestatic 99, 3) := dk_184 0 99 (dk_at dksX3_book_1 0 rfl rfl)
theorem dX3_book_27 : decode cX3_book 27 = .ok (.ifCond .ne 6, 3) := dk_154 0 6 (dk_at dksX3_book_1 3 rfl rfl)
theorem dX3_book_30 : decode cX3_book 30 = .ok (.bipush (-102), 2) := dk_16 154 (dk_at dksX3_book_1 6 rfl rfl)
theorem dX3_book_32 : decode cX3_book 32 = .ok (.ireturn, 1) := dk_172 (dk_at dksX3_book_1 8 rfl rfl)
theorem dX3_book_33 : decode cX3_book 33 = .ok (.aload_n 0, 1) := dk_42 (dk_at dksX3_book_1 9 rfl rfl)
theorem dX3_book_34 : decode cX3_book 34 = .ok (.aload_n 0, 1) := dk_42 (dk_at dksX3_book_1 10 rfl rfl)
theorem dX3_book_35 : decode cX3_book 35 = .ok (.iload_n 1, 1) := dk_27 (dk_at dksX3_book_1 11 rfl rfl)
theorem dX3_book_36 : decode cX3_book 36 = .ok (.iload_n 2, 1) := dk_28 (dk_at dksX3_book_1 12 rfl rfl)
theorem dX3_book_37 : decode cX3_book 37 = .ok (.invokevirtual 200, 3) := dk_182 0 200 (dk_at dksX3_book_1 13 rfl rfl)
theorem dX3_book_40 : decode cX3_book 40 = .ok (.putfield 94, 3) := dk_181 0 94 (dk_at dksX3_book_1 16 rfl rfl)
theorem dX3_book_43 : decode cX3_book 43 = .ok (.aload_n 0, 1) := dk_42 (dk_at dksX3_book_1 19 rfl rfl)
theorem dX3_book_44 : decode cX3_book 44 = .ok (.getfield 94, 3) := dk_180 0 94 (dk_at dksX3_book_1 20 rfl rfl)
theorem dX3_book_47 : decode cX3_book 47 = .ok (.ifCond .eq 5, 3) := dk_153 0 5 (dk_at dksX3_book_2 0 rfl rfl)
theorem dX3_book_50 : decode cX3_book 50 = .ok (.iconst 0, 1) := dk_3 (dk_at dksX3_book_2 3 rfl rfl)
theorem dX3_book_51 : decode cX3_book 51 = .ok (.ireturn, 1) := dk_172 (dk_at dksX3_book_2 4 rfl rfl)
theorem dX3_book_52 : decode cX3_book 52 = .ok (.aload_n 0, 1) := dk_42 (dk_at dksX3_book_2 5 rfl rfl)
theorem dX3_book_53 : decode cX3_book 53 = .ok (.getfield 21, 3) := dk_180 0 21 (dk_at dksX3_book_2 6 rfl rfl)
theorem dX3_book_56 : decode cX3_book 56 = .ok (.bipush 60, 2) := dk_16 60 (dk_at dksX3_book_2 9 rfl rfl)
theorem dX3_book_58 : decode cX3_book 58 = .ok (.iload_n 1, 1) := dk_27 (dk_at dksX3_book_2 11 rfl rfl)
theorem dX3_book_59 : decode cX3_book 59 = .ok (.imul, 1) := dk_104 (dk_at dksX3_book_2 12 rfl rfl)
theorem dX3_book_60 : decode cX3_book 60 = .ok (.iload_n 2, 1) := dk_28 (dk_at dksX3_book_2 13 rfl rfl)
theorem dX3_book_61 : decode cX3_book 61 = .ok (.iadd, 1) := dk_96 (dk_at dksX3_book_2 14 rfl rfl)
theorem dX3_book_62 : decode cX3_book 62 = .ok (.iload_n 3, 1) := dk_29 (dk_at dksX3_book_2 15 rfl rfl)
theorem dX3_book_63 : decode cX3_book 63 = .ok (.iastore, 1) := dk_79 (dk_at dksX3_book_2 16 rfl rfl)
theorem dX3_book_64 : decode cX3_book 64 = .ok (.aload_n 0, 1) := dk_42 (dk_at dksX3_book_2 17 rfl rfl)
theorem dX3_book_65 : decode cX3_book 65 = .ok (.getfield 24, 3) := dk_180 0 24 (dk_at dksX3_book_2 18 rfl rfl)
theorem dX3_book_68 : decode cX3_book 68 = .ok (.bipush 60, 2) := dk_16 60 (dk_at dksX3_book_2 21 rfl rfl)
theorem dX3_book_70 : decode cX3_book 70 = .ok (.iload_n 1, 1) := dk_27 (dk_at dksX3_book_2 23 rfl rfl)
theorem dX3_book_71 : decode cX3_book 71 = .ok (.imul, 1) := dk_104 (dk_at dksX3_book_3 0 rfl rfl)
theorem dX3_book_72 : decode cX3_book 72 = .ok (.iload_n 2, 1) := dk_28 (dk_at dksX3_book_3 1 rfl rfl)
theorem dX3_book_73 : decode cX3_book 73 = .ok (.iadd, 1) := dk_96 (dk_at dksX3_book_3 2 rfl rfl)
theorem dX3_book_74 : decode cX3_book 74 = .ok (.iload 4, 2) := dk_21 4 (dk_at dksX3_book_3 3 rfl rfl)
theorem dX3_book_76 : decode cX3_book 76 = .ok (.iastore, 1) := dk_79 (dk_at dksX3_book_3 5 rfl rfl)
theorem dX3_book_77 : decode cX3_book 77 = .ok (.iconst 1, 1) := dk_4 (dk_at dksX3_book_3 6 rfl rfl)
theorem dX3_book_78 : decode cX3_book 78 = .ok (.ireturn, 1) := dk_172 (dk_at dksX3_book_3 7 rfl rfl)
abbrev cX3_amount : ByteArray := prog_27_method_31_code
def yX3_amount : MethodName := ⟨RX3, "amount", "(II)J"⟩
def dkwX3_amount_1 : List UInt8 := [180, 0, 13, 27, 51, 42, 180, 0, 17, 16, 60, 27, 104, 28, 96, 49, 184, 0, 216, 173]
abbrev dktX3_amount_1 : List UInt8 := dkwX3_amount_1 ++ []
def dkwX3_amount_0 : List UInt8 := [42, 42, 27, 28, 182, 0, 200, 181, 0, 94, 42, 180, 0, 94, 153, 0, 7, 9, 167, 0, 23, 42]
abbrev dktX3_amount_0 : List UInt8 := dkwX3_amount_0 ++ dktX3_amount_1
theorem dksX3_amount_0 : cX3_amount.data.toList.drop 0 = dktX3_amount_0 := by decide +kernel
theorem dksX3_amount_1 : cX3_amount.data.toList.drop 22 = dktX3_amount_1 := dk_seg dksX3_amount_0 22 rfl rfl
theorem dX3_amount_0 : decode cX3_amount 0 = .ok (.aload_n 0, 1) := dk_42 (dk_at dksX3_amount_0 0 rfl rfl)
theorem dX3_amount_1 : decode cX3_amount 1 = .ok (.aload_n 0, 1) := dk_42 (dk_at dksX3_amount_0 1 rfl rfl)
theorem dX3_amount_2 : decode cX3_amount 2 = .ok (.iload_n 1, 1) := dk_27 (dk_at dksX3_amount_0 2 rfl rfl)
theorem dX3_amount_3 : decode cX3_amount 3 = .ok (.iload_n 2, 1) := dk_28 (dk_at dksX3_amount_0 3 rfl rfl)
theorem dX3_amount_4 : decode cX3_amount 4 = .ok (.invokevirtual 200, 3) := dk_182 0 200 (dk_at dksX3_amount_0 4 rfl rfl)
theorem dX3_amount_7 : decode cX3_amount 7 = .ok (.putfield 94, 3) := dk_181 0 94 (dk_at dksX3_amount_0 7 rfl rfl)
theorem dX3_amount_10 : decode cX3_amount 10 = .ok (.aload_n 0, 1) := dk_42 (dk_at dksX3_amount_0 10 rfl rfl)
theorem dX3_amount_11 : decode cX3_amount 11 = .ok (.getfield 94, 3) := dk_180 0 94 (dk_at dksX3_amount_0 11 rfl rfl)
theorem dX3_amount_14 : decode cX3_amount 14 = .ok (.ifCond .eq 7, 3) := dk_153 0 7 (dk_at dksX3_amount_0 14 rfl rfl)
theorem dX3_amount_17 : decode cX3_amount 17 = .ok (.lconst 0, 1) := dk_9 (dk_at dksX3_amount_0 17 rfl rfl)
theorem dX3_amount_18 : decode cX3_amount 18 = .ok (.goto 23, 3) := dk_167 0 23 (dk_at dksX3_amount_0 18 rfl rfl)
theorem dX3_amount_21 : decode cX3_amount 21 = .ok (.aload_n 0, 1) := dk_42 (dk_at dksX3_amount_0 21 rfl rfl)
theorem dX3_amount_22 : decode cX3_amount 22 = .ok (.getfield 13, 3) := dk_180 0 13 (dk_at dksX3_amount_1 0 rfl rfl)
theorem dX3_amount_25 : decode cX3_amount 25 = .ok (.iload_n 1, 1) := dk_27 (dk_at dksX3_amount_1 3 rfl rfl)
theorem dX3_amount_26 : decode cX3_amount 26 = .ok (.baload, 1) := dk_51 (dk_at dksX3_amount_1 4 rfl rfl)
theorem dX3_amount_27 : decode cX3_amount 27 = .ok (.aload_n 0, 1) := dk_42 (dk_at dksX3_amount_1 5 rfl rfl)
theorem dX3_amount_28 : decode cX3_amount 28 = .ok (.getfield 17, 3) := dk_180 0 17 (dk_at dksX3_amount_1 6 rfl rfl)
theorem dX3_amount_31 : decode cX3_amount 31 = .ok (.bipush 60, 2) := dk_16 60 (dk_at dksX3_amount_1 9 rfl rfl)
theorem dX3_amount_33 : decode cX3_amount 33 = .ok (.iload_n 1, 1) := dk_27 (dk_at dksX3_amount_1 11 rfl rfl)
theorem dX3_amount_34 : decode cX3_amount 34 = .ok (.imul, 1) := dk_104 (dk_at dksX3_amount_1 12 rfl rfl)
theorem dX3_amount_35 : decode cX3_amount 35 = .ok (.iload_n 2, 1) := dk_28 (dk_at dksX3_amount_1 13 rfl rfl)
theorem dX3_amount_36 : decode cX3_amount 36 = .ok (.iadd, 1) := dk_96 (dk_at dksX3_amount_1 14 rfl rfl)
theorem dX3_amount_37 : decode cX3_amount 37 = .ok (.daload, 1) := dk_49 (dk_at dksX3_amount_1 15 rfl rfl)
theorem dX3_amount_38 : decode cX3_amount 38 = .ok (.invokestatic 216, 3) := dk_184 0 216 (dk_at dksX3_amount_1 16 rfl rfl)
theorem dX3_amount_41 : decode cX3_amount 41 = .ok (.lreturn, 1) := dk_173 (dk_at dksX3_amount_1 19 rfl rfl)
abbrev cX3_bitsOf : ByteArray := prog_27_method_22_code
def yX3_bitsOf : MethodName := ⟨RX3, "bitsOf", "(ZD)J"⟩
def dkwX3_bitsOf_0 : List UInt8 := [26, 153, 0, 10, 39, 184, 0, 113, 167, 0, 9, 39, 144, 184, 0, 161, 133, 173]
abbrev dktX3_bitsOf_0 : List UInt8 := dkwX3_bitsOf_0 ++ []
theorem dksX3_bitsOf_0 : cX3_bitsOf.data.toList.drop 0 = dktX3_bitsOf_0 := by decide +kernel
theorem dX3_bitsOf_0 : decode cX3_bitsOf 0 = .ok (.iload_n 0, 1) := dk_26 (dk_at dksX3_bitsOf_0 0 rfl rfl)
theorem dX3_bitsOf_1 : decode cX3_bitsOf 1 = .ok (.ifCond .eq 10, 3) := dk_153 0 10 (dk_at dksX3_bitsOf_0 1 rfl rfl)
theorem dX3_bitsOf_4 : decode cX3_bitsOf 4 = .ok (.dload_n 1, 1) := dk_39 (dk_at dksX3_bitsOf_0 4 rfl rfl)
theorem dX3_bitsOf_5 : decode cX3_bitsOf 5 = .ok (.invokestatic 113, 3) := dk_184 0 113 (dk_at dksX3_bitsOf_0 5 rfl rfl)
theorem dX3_bitsOf_8 : decode cX3_bitsOf 8 = .ok (.goto 9, 3) := dk_167 0 9 (dk_at dksX3_bitsOf_0 8 rfl rfl)
theorem dX3_bitsOf_11 : decode cX3_bitsOf 11 = .ok (.dload_n 1, 1) := dk_39 (dk_at dksX3_bitsOf_0 11 rfl rfl)
theorem dX3_bitsOf_12 : decode cX3_bitsOf 12 = .ok (.d2f, 1) := dk_144 (dk_at dksX3_bitsOf_0 12 rfl rfl)
theorem dX3_bitsOf_13 : decode cX3_bitsOf 13 = .ok (.invokestatic 161, 3) := dk_184 0 161 (dk_at dksX3_bitsOf_0 13 rfl rfl)
theorem dX3_bitsOf_16 : decode cX3_bitsOf 16 = .ok (.i2l, 1) := dk_133 (dk_at dksX3_bitsOf_0 16 rfl rfl)
theorem dX3_bitsOf_17 : decode cX3_bitsOf 17 = .ok (.lreturn, 1) := dk_173 (dk_at dksX3_bitsOf_0 17 rfl rfl)
abbrev cX3_entry : ByteArray := prog_27_method_32_code
def yX3_entry : MethodName := ⟨RX3, "entry", "(III)I"⟩
def dkwX3_entry_2 : List UInt8 := [180, 0, 24, 16, 60, 27, 104, 28, 96, 46, 167, 0, 5, 16, 154, 172]
abbrev dktX3_entry_2 : List UInt8 := dkwX3_entry_2 ++ []
def dkwX3_entry_1 : List UInt8 := [154, 0, 17, 42, 180, 0, 21, 16, 60, 27, 104, 28, 96, 46, 167, 0, 24, 29, 4, 160, 0, 17, 42]
abbrev dktX3_entry_1 : List UInt8 := dkwX3_entry_1 ++ dktX3_entry_2
def dkwX3_entry_0 : List UInt8 := [42, 42, 27, 28, 182, 0, 200, 181, 0, 94, 42, 180, 0, 94, 153, 0, 7, 3, 167, 0, 42, 29]
abbrev dktX3_entry_0 : List UInt8 := dkwX3_entry_0 ++ dktX3_entry_1
theorem dksX3_entry_0 : cX3_entry.data.toList.drop 0 = dktX3_entry_0 := by decide +kernel
theorem dksX3_entry_1 : cX3_entry.data.toList.drop 22 = dktX3_entry_1 := dk_seg dksX3_entry_0 22 rfl rfl
theorem dksX3_entry_2 : cX3_entry.data.toList.drop 45 = dktX3_entry_2 := dk_seg dksX3_entry_1 23 rfl rfl
theorem dX3_entry_0 : decode cX3_entry 0 = .ok (.aload_n 0, 1) := dk_42 (dk_at dksX3_entry_0 0 rfl rfl)
theorem dX3_entry_1 : decode cX3_entry 1 = .ok (.aload_n 0, 1) := dk_42 (dk_at dksX3_entry_0 1 rfl rfl)
theorem dX3_entry_2 : decode cX3_entry 2 = .ok (.iload_n 1, 1) := dk_27 (dk_at dksX3_entry_0 2 rfl rfl)
theorem dX3_entry_3 : decode cX3_entry 3 = .ok (.iload_n 2, 1) := dk_28 (dk_at dksX3_entry_0 3 rfl rfl)
theorem dX3_entry_4 : decode cX3_entry 4 = .ok (.invokevirtual 200, 3) := dk_182 0 200 (dk_at dksX3_entry_0 4 rfl rfl)
theorem dX3_entry_7 : decode cX3_entry 7 = .ok (.putfield 94, 3) := dk_181 0 94 (dk_at dksX3_entry_0 7 rfl rfl)
theorem dX3_entry_10 : decode cX3_entry 10 = .ok (.aload_n 0, 1) := dk_42 (dk_at dksX3_entry_0 10 rfl rfl)
theorem dX3_entry_11 : decode cX3_entry 11 = .ok (.getfield 94, 3) := dk_180 0 94 (dk_at dksX3_entry_0 11 rfl rfl)
theorem dX3_entry_14 : decode cX3_entry 14 = .ok (.ifCond .eq 7, 3) := dk_153 0 7 (dk_at dksX3_entry_0 14 rfl rfl)
theorem dX3_entry_17 : decode cX3_entry 17 = .ok (.iconst 0, 1) := dk_3 (dk_at dksX3_entry_0 17 rfl rfl)
theorem dX3_entry_18 : decode cX3_entry 18 = .ok (.goto 42, 3) := dk_167 0 42 (dk_at dksX3_entry_0 18 rfl rfl)
theorem dX3_entry_21 : decode cX3_entry 21 = .ok (.iload_n 3, 1) := dk_29 (dk_at dksX3_entry_0 21 rfl rfl)
theorem dX3_entry_22 : decode cX3_entry 22 = .ok (.ifCond .ne 17, 3) := dk_154 0 17 (dk_at dksX3_entry_1 0 rfl rfl)
theorem dX3_entry_25 : decode cX3_entry 25 = .ok (.aload_n 0, 1) := dk_42 (dk_at dksX3_entry_1 3 rfl rfl)
theorem dX3_entry_26 : decode cX3_entry 26 = .ok (.getfield 21, 3) := dk_180 0 21 (dk_at dksX3_entry_1 4 rfl rfl)
theorem dX3_entry_29 : decode cX3_entry 29 = .ok (.bipush 60, 2) := dk_16 60 (dk_at dksX3_entry_1 7 rfl rfl)
theorem dX3_entry_31 : decode cX3_entry 31 = .ok (.iload_n 1, 1) := dk_27 (dk_at dksX3_entry_1 9 rfl rfl)
theorem dX3_entry_32 : decode cX3_entry 32 = .ok (.imul, 1) := dk_104 (dk_at dksX3_entry_1 10 rfl rfl)
theorem dX3_entry_33 : decode cX3_entry 33 = .ok (.iload_n 2, 1) := dk_28 (dk_at dksX3_entry_1 11 rfl rfl)
theorem dX3_entry_34 : decode cX3_entry 34 = .ok (.iadd, 1) := dk_96 (dk_at dksX3_entry_1 12 rfl rfl)
theorem dX3_entry_35 : decode cX3_entry 35 = .ok (.iaload, 1) := dk_46 (dk_at dksX3_entry_1 13 rfl rfl)
theorem dX3_entry_36 : decode cX3_entry 36 = .ok (.goto 24, 3) := dk_167 0 24 (dk_at dksX3_entry_1 14 rfl rfl)
theorem dX3_entry_39 : decode cX3_entry 39 = .ok (.iload_n 3, 1) := dk_29 (dk_at dksX3_entry_1 17 rfl rfl)
theorem dX3_entry_40 : decode cX3_entry 40 = .ok (.iconst 1, 1) := dk_4 (dk_at dksX3_entry_1 18 rfl rfl)
theorem dX3_entry_41 : decode cX3_entry 41 = .ok (.if_icmp .ne 17, 3) := dk_160 0 17 (dk_at dksX3_entry_1 19 rfl rfl)
theorem dX3_entry_44 : decode cX3_entry 44 = .ok (.aload_n 0, 1) := dk_42 (dk_at dksX3_entry_1 22 rfl rfl)
theorem dX3_entry_45 : decode cX3_entry 45 = .ok (.getfield 24, 3) := dk_180 0 24 (dk_at dksX3_entry_2 0 rfl rfl)
theorem dX3_entry_48 : decode cX3_entry 48 = .ok (.bipush 60, 2) := dk_16 60 (dk_at dksX3_entry_2 3 rfl rfl)
theorem dX3_entry_50 : decode cX3_entry 50 = .ok (.iload_n 1, 1) := dk_27 (dk_at dksX3_entry_2 5 rfl rfl)
theorem dX3_entry_51 : decode cX3_entry 51 = .ok (.imul, 1) := dk_104 (dk_at dksX3_entry_2 6 rfl rfl)
theorem dX3_entry_52 : decode cX3_entry 52 = .ok (.iload_n 2, 1) := dk_28 (dk_at dksX3_entry_2 7 rfl rfl)
theorem dX3_entry_53 : decode cX3_entry 53 = .ok (.iadd, 1) := dk_96 (dk_at dksX3_entry_2 8 rfl rfl)
theorem dX3_entry_54 : decode cX3_entry 54 = .ok (.iaload, 1) := dk_46 (dk_at dksX3_entry_2 9 rfl rfl)
theorem dX3_entry_55 : decode cX3_entry 55 = .ok (.goto 5, 3) := dk_167 0 5 (dk_at dksX3_entry_2 10 rfl rfl)
theorem dX3_entry_58 : decode cX3_entry 58 = .ok (.bipush (-102), 2) := dk_16 154 (dk_at dksX3_entry_2 13 rfl rfl)
theorem dX3_entry_60 : decode cX3_entry 60 = .ok (.ireturn, 1) := dk_172 (dk_at dksX3_entry_2 15 rfl rfl)
abbrev cX3_about : ByteArray := prog_27_method_35_code
def yX3_about : MethodName := ⟨RX3, "about", "(II)I"⟩
def dkwX3_about_5 : List UInt8 := [132, 4, 1, 167, 255, 213, 29, 172]
abbrev dktX3_about_5 : List UInt8 := dkwX3_about_5 ++ []
def dkwX3_about_4 : List UInt8 := [16, 60, 27, 104, 21, 4, 96, 49, 28, 182, 0, 237, 153, 0, 7, 4, 167, 0, 4, 3, 96, 62]
abbrev dktX3_about_4 : List UInt8 := dkwX3_about_4 ++ dktX3_about_5
def dkwX3_about_3 : List UInt8 := [3, 62, 3, 54, 4, 21, 4, 42, 180, 0, 7, 27, 46, 162, 0, 38, 29, 42, 27, 42, 180, 0, 17]
abbrev dktX3_about_3 : List UInt8 := dkwX3_about_3 ++ dktX3_about_4
def dkwX3_about_2 : List UInt8 := [42, 180, 0, 7, 27, 46, 167, 0, 17, 42, 180, 0, 13, 27, 51, 153, 0, 7, 4, 167, 0, 4, 3, 172]
abbrev dktX3_about_2 : List UInt8 := dkwX3_about_2 ++ dktX3_about_3
def dkwX3_about_1 : List UInt8 := [182, 0, 103, 181, 0, 94, 42, 180, 0, 94, 153, 0, 5, 3, 172, 28, 5, 162, 0, 31, 28, 154, 0, 12]
abbrev dktX3_about_1 : List UInt8 := dkwX3_about_1 ++ dktX3_about_2
def dkwX3_about_0 : List UInt8 := [42, 3, 181, 0, 94, 28, 133, 9, 20, 0, 235, 184, 0, 99, 154, 0, 6, 16, 154, 172, 42, 42, 27]
abbrev dktX3_about_0 : List UInt8 := dkwX3_about_0 ++ dktX3_about_1
theorem dksX3_about_0 : cX3_about.data.toList.drop 0 = dktX3_about_0 := by decide +kernel
theorem dksX3_about_1 : cX3_about.data.toList.drop 23 = dktX3_about_1 := dk_seg dksX3_about_0 23 rfl rfl
theorem dksX3_about_2 : cX3_about.data.toList.drop 47 = dktX3_about_2 := dk_seg dksX3_about_1 24 rfl rfl
theorem dksX3_about_3 : cX3_about.data.toList.drop 71 = dktX3_about_3 := dk_seg dksX3_about_2 24 rfl rfl
theorem dksX3_about_4 : cX3_about.data.toList.drop 94 = dktX3_about_4 := dk_seg dksX3_about_3 23 rfl rfl
theorem dksX3_about_5 : cX3_about.data.toList.drop 116 = dktX3_about_5 := dk_seg dksX3_about_4 22 rfl rfl
theorem dX3_about_0 : decode cX3_about 0 = .ok (.aload_n 0, 1) := dk_42 (dk_at dksX3_about_0 0 rfl rfl)
theorem dX3_about_1 : decode cX3_about 1 = .ok (.iconst 0, 1) := dk_3 (dk_at dksX3_about_0 1 rfl rfl)
theorem dX3_about_2 : decode cX3_about 2 = .ok (.putfield 94, 3) := dk_181 0 94 (dk_at dksX3_about_0 2 rfl rfl)
theorem dX3_about_5 : decode cX3_about 5 = .ok (.iload_n 2, 1) := dk_28 (dk_at dksX3_about_0 5 rfl rfl)
theorem dX3_about_6 : decode cX3_about 6 = .ok (.i2l, 1) := dk_133 (dk_at dksX3_about_0 6 rfl rfl)
theorem dX3_about_7 : decode cX3_about 7 = .ok (.lconst 0, 1) := dk_9 (dk_at dksX3_about_0 7 rfl rfl)
theorem dX3_about_8 : decode cX3_about 8 = .ok (.ldc2_w 235, 3) := dk_20 0 235 (dk_at dksX3_about_0 8 rfl rfl)
theorem dX3_about_11 : decode cX3_about 11 = .ok (.invokestatic 99, 3) := dk_184 0 99 (dk_at dksX3_about_0 11 rfl rfl)
theorem dX3_about_14 : decode cX3_about 14 = .ok (.ifCond .ne 6, 3) := dk_154 0 6 (dk_at dksX3_about_0 14 rfl rfl)
theorem dX3_about_17 : decode cX3_about 17 = .ok (.bipush (-102), 2) := dk_16 154 (dk_at dksX3_about_0 17 rfl rfl)
theorem dX3_about_19 : decode cX3_about 19 = .ok (.ireturn, 1) := dk_172 (dk_at dksX3_about_0 19 rfl rfl)
theorem dX3_about_20 : decode cX3_about 20 = .ok (.aload_n 0, 1) := dk_42 (dk_at dksX3_about_0 20 rfl rfl)
theorem dX3_about_21 : decode cX3_about 21 = .ok (.aload_n 0, 1) := dk_42 (dk_at dksX3_about_0 21 rfl rfl)
theorem dX3_about_22 : decode cX3_about 22 = .ok (.iload_n 1, 1) := dk_27 (dk_at dksX3_about_0 22 rfl rfl)
theorem dX3_about_23 : decode cX3_about 23 = .ok (.invokevirtual 103, 3) := dk_182 0 103 (dk_at dksX3_about_1 0 rfl rfl)
theorem dX3_about_26 : decode cX3_about 26 = .ok (.putfield 94, 3) := dk_181 0 94 (dk_at dksX3_about_1 3 rfl rfl)
theorem dX3_about_29 : decode cX3_about 29 = .ok (.aload_n 0, 1) := dk_42 (dk_at dksX3_about_1 6 rfl rfl)
theorem dX3_about_30 : decode cX3_about 30 = .ok (.getfield 94, 3) := dk_180 0 94 (dk_at dksX3_about_1 7 rfl rfl)
theorem dX3_about_33 : decode cX3_about 33 = .ok (.ifCond .eq 5, 3) := dk_153 0 5 (dk_at dksX3_about_1 10 rfl rfl)
theorem dX3_about_36 : decode cX3_about 36 = .ok (.iconst 0, 1) := dk_3 (dk_at dksX3_about_1 13 rfl rfl)
theorem dX3_about_37 : decode cX3_about 37 = .ok (.ireturn, 1) := dk_172 (dk_at dksX3_about_1 14 rfl rfl)
theorem dX3_about_38 : decode cX3_about 38 = .ok (.iload_n 2, 1) := dk_28 (dk_at dksX3_about_1 15 rfl rfl)
theorem dX3_about_39 : decode cX3_about 39 = .ok (.iconst 2, 1) := dk_5 (dk_at dksX3_about_1 16 rfl rfl)
theorem dX3_about_40 : decode cX3_about 40 = .ok (.if_icmp .ge 31, 3) := dk_162 0 31 (dk_at dksX3_about_1 17 rfl rfl)
theorem dX3_about_43 : decode cX3_about 43 = .ok (.iload_n 2, 1) := dk_28 (dk_at dksX3_about_1 20 rfl rfl)
theorem dX3_about_44 : decode cX3_about 44 = .ok (.ifCond .ne 12, 3) := dk_154 0 12 (dk_at dksX3_about_1 21 rfl rfl)
theorem dX3_about_47 : decode cX3_about 47 = .ok (.aload_n 0, 1) := dk_42 (dk_at dksX3_about_2 0 rfl rfl)
theorem dX3_about_48 : decode cX3_about 48 = .ok (.getfield 7, 3) := dk_180 0 7 (dk_at dksX3_about_2 1 rfl rfl)
theorem dX3_about_51 : decode cX3_about 51 = .ok (.iload_n 1, 1) := dk_27 (dk_at dksX3_about_2 4 rfl rfl)
theorem dX3_about_52 : decode cX3_about 52 = .ok (.iaload, 1) := dk_46 (dk_at dksX3_about_2 5 rfl rfl)
theorem dX3_about_53 : decode cX3_about 53 = .ok (.goto 17, 3) := dk_167 0 17 (dk_at dksX3_about_2 6 rfl rfl)
theorem dX3_about_56 : decode cX3_about 56 = .ok (.aload_n 0, 1) := dk_42 (dk_at dksX3_about_2 9 rfl rfl)
theorem dX3_about_57 : decode cX3_about 57 = .ok (.getfield 13, 3) := dk_180 0 13 (dk_at dksX3_about_2 10 rfl rfl)
theorem dX3_about_60 : decode cX3_about 60 = .ok (.iload_n 1, 1) := dk_27 (dk_at dksX3_about_2 13 rfl rfl)
theorem dX3_about_61 : decode cX3_about 61 = .ok (.baload, 1) := dk_51 (dk_at dksX3_about_2 14 rfl rfl)
theorem dX3_about_62 : decode cX3_about 62 = .ok (.ifCond .eq 7, 3) := dk_153 0 7 (dk_at dksX3_about_2 15 rfl rfl)
theorem dX3_about_65 : decode cX3_about 65 = .ok (.iconst 1, 1) := dk_4 (dk_at dksX3_about_2 18 rfl rfl)
theorem dX3_about_66 : decode cX3_about 66 = .ok (.goto 4, 3) := dk_167 0 4 (dk_at dksX3_about_2 19 rfl rfl)
theorem dX3_about_69 : decode cX3_about 69 = .ok (.iconst 0, 1) := dk_3 (dk_at dksX3_about_2 22 rfl rfl)
theorem dX3_about_70 : decode cX3_about 70 = .ok (.ireturn, 1) := dk_172 (dk_at dksX3_about_2 23 rfl rfl)
theorem dX3_about_71 : decode cX3_about 71 = .ok (.iconst 0, 1) := dk_3 (dk_at dksX3_about_3 0 rfl rfl)
theorem dX3_about_72 : decode cX3_about 72 = .ok (.istore_n 3, 1) := dk_62 (dk_at dksX3_about_3 1 rfl rfl)
theorem dX3_about_73 : decode cX3_about 73 = .ok (.iconst 0, 1) := dk_3 (dk_at dksX3_about_3 2 rfl rfl)
theorem dX3_about_74 : decode cX3_about 74 = .ok (.istore 4, 2) := dk_54 4 (dk_at dksX3_about_3 3 rfl rfl)
theorem dX3_about_76 : decode cX3_about 76 = .ok (.iload 4, 2) := dk_21 4 (dk_at dksX3_about_3 5 rfl rfl)
theorem dX3_about_78 : decode cX3_about 78 = .ok (.aload_n 0, 1) := dk_42 (dk_at dksX3_about_3 7 rfl rfl)
theorem dX3_about_79 : decode cX3_about 79 = .ok (.getfield 7, 3) := dk_180 0 7 (dk_at dksX3_about_3 8 rfl rfl)
theorem dX3_about_82 : decode cX3_about 82 = .ok (.iload_n 1, 1) := dk_27 (dk_at dksX3_about_3 11 rfl rfl)
theorem dX3_about_83 : decode cX3_about 83 = .ok (.iaload, 1) := dk_46 (dk_at dksX3_about_3 12 rfl rfl)
theorem dX3_about_84 : decode cX3_about 84 = .ok (.if_icmp .ge 38, 3) := dk_162 0 38 (dk_at dksX3_about_3 13 rfl rfl)
theorem dX3_about_87 : decode cX3_about 87 = .ok (.iload_n 3, 1) := dk_29 (dk_at dksX3_about_3 16 rfl rfl)
theorem dX3_about_88 : decode cX3_about 88 = .ok (.aload_n 0, 1) := dk_42 (dk_at dksX3_about_3 17 rfl rfl)
theorem dX3_about_89 : decode cX3_about 89 = .ok (.iload_n 1, 1) := dk_27 (dk_at dksX3_about_3 18 rfl rfl)
theorem dX3_about_90 : decode cX3_about 90 = .ok (.aload_n 0, 1) := dk_42 (dk_at dksX3_about_3 19 rfl rfl)
theorem dX3_about_91 : decode cX3_about 91 = .ok (.getfield 17, 3) := dk_180 0 17 (dk_at dksX3_about_3 20 rfl rfl)
theorem dX3_about_94 : decode cX3_about 94 = .ok (.bipush 60, 2) := dk_16 60 (dk_at dksX3_about_4 0 rfl rfl)
theorem dX3_about_96 : decode cX3_about 96 = .ok (.iload_n 1, 1) := dk_27 (dk_at dksX3_about_4 2 rfl rfl)
theorem dX3_about_97 : decode cX3_about 97 = .ok (.imul, 1) := dk_104 (dk_at dksX3_about_4 3 rfl rfl)
theorem dX3_about_98 : decode cX3_about 98 = .ok (.iload 4, 2) := dk_21 4 (dk_at dksX3_about_4 4 rfl rfl)
theorem dX3_about_100 : decode cX3_about 100 = .ok (.iadd, 1) := dk_96 (dk_at dksX3_about_4 6 rfl rfl)
theorem dX3_about_101 : decode cX3_about 101 = .ok (.daload, 1) := dk_49 (dk_at dksX3_about_4 7 rfl rfl)
theorem dX3_about_102 : decode cX3_about 102 = .ok (.iload_n 2, 1) := dk_28 (dk_at dksX3_about_4 8 rfl rfl)
theorem dX3_about_103 : decode cX3_about 103 = .ok (.invokevirtual 237, 3) := dk_182 0 237 (dk_at dksX3_about_4 9 rfl rfl)
theorem dX3_about_106 : decode cX3_about 106 = .ok (.ifCond .eq 7, 3) := dk_153 0 7 (dk_at dksX3_about_4 12 rfl rfl)
theorem dX3_about_109 : decode cX3_about 109 = .ok (.iconst 1, 1) := dk_4 (dk_at dksX3_about_4 15 rfl rfl)
theorem dX3_about_110 : decode cX3_about 110 = .ok (.goto 4, 3) := dk_167 0 4 (dk_at dksX3_about_4 16 rfl rfl)
theorem dX3_about_113 : decode cX3_about 113 = .ok (.iconst 0, 1) := dk_3 (dk_at dksX3_about_4 19 rfl rfl)
theorem dX3_about_114 : decode cX3_about 114 = .ok (.iadd, 1) := dk_96 (dk_at dksX3_about_4 20 rfl rfl)
theorem dX3_about_115 : decode cX3_about 115 = .ok (.istore_n 3, 1) := dk_62 (dk_at dksX3_about_4 21 rfl rfl)
theorem dX3_about_116 : decode cX3_about 116 = .ok (.iinc 4 1, 3) := dk_132 4 1 (dk_at dksX3_about_5 0 rfl rfl)
theorem dX3_about_119 : decode cX3_about 119 = .ok (.goto (-43), 3) := dk_167 255 213 (dk_at dksX3_about_5 3 rfl rfl)
theorem dX3_about_122 : decode cX3_about 122 = .ok (.iload_n 3, 1) := dk_29 (dk_at dksX3_about_5 6 rfl rfl)
theorem dX3_about_123 : decode cX3_about 123 = .ok (.ireturn, 1) := dk_172 (dk_at dksX3_about_5 7 rfl rfl)
abbrev cX3_isSuch : ByteArray := prog_27_method_34_code
def yX3_isSuch : MethodName := ⟨RX3, "isSuch", "(IDI)Z"⟩
def dkwX3_isSuch_5 : List UInt8 := [27, 51, 153, 0, 9, 20, 0, 231, 167, 0, 6, 20, 0, 233, 152, 156, 0, 7, 4, 167, 0, 4, 3, 172]
abbrev dktX3_isSuch_5 : List UInt8 := dkwX3_isSuch_5 ++ []
def dkwX3_isSuch_4 : List UInt8 := [167, 0, 4, 3, 172, 40, 184, 0, 228, 172, 40, 14, 151, 153, 0, 33, 40, 184, 0, 173, 42, 180, 0, 13]
abbrev dktX3_isSuch_4 : List UInt8 := dkwX3_isSuch_4 ++ dktX3_isSuch_5
def dkwX3_isSuch_3 : List UInt8 := [154, 0, 14, 40, 184, 0, 224, 153, 0, 7, 4, 167, 0, 4, 3, 172, 40, 14, 152, 156, 0, 7, 4]
abbrev dktX3_isSuch_3 : List UInt8 := dkwX3_isSuch_3 ++ dktX3_isSuch_4
def dkwX3_isSuch_2 : List UInt8 := [40, 14, 151, 154, 0, 14, 40, 184, 0, 224, 154, 0, 7, 4, 167, 0, 4, 3, 172, 40, 14, 151]
abbrev dktX3_isSuch_2 : List UInt8 := dkwX3_isSuch_2 ++ dktX3_isSuch_3
def dkwX3_isSuch_1 : List UInt8 := [170, 0, 0, 0, 0, 85, 0, 0, 0, 2, 0, 0, 0, 5, 0, 0, 0, 30, 0, 0, 0, 49, 0, 0, 0, 68, 0, 0, 0, 80]
abbrev dktX3_isSuch_1 : List UInt8 := dkwX3_isSuch_1 ++ dktX3_isSuch_2
def dkwX3_isSuch_0 : List UInt8 := [21, 4]
abbrev dktX3_isSuch_0 : List UInt8 := dkwX3_isSuch_0 ++ dktX3_isSuch_1
theorem dksX3_isSuch_0 : cX3_isSuch.data.toList.drop 0 = dktX3_isSuch_0 := by decide +kernel
theorem dksX3_isSuch_1 : cX3_isSuch.data.toList.drop 2 = dktX3_isSuch_1 := dk_seg dksX3_isSuch_0 2 rfl rfl
theorem dksX3_isSuch_2 : cX3_isSuch.data.toList.drop 32 = dktX3_isSuch_2 := dk_seg dksX3_isSuch_1 30 rfl rfl
theorem dksX3_isSuch_3 : cX3_isSuch.data.toList.drop 54 = dktX3_isSuch_3 := dk_seg dksX3_isSuch_2 22 rfl rfl
theorem dksX3_isSuch_4 : cX3_isSuch.data.toList.drop 77 = dktX3_isSuch_4 := dk_seg dksX3_isSuch_3 23 rfl rfl
theorem dksX3_isSuch_5 : cX3_isSuch.data.toList.drop 101 = dktX3_isSuch_5 := dk_seg dksX3_isSuch_4 24 rfl rfl
theorem dX3_isSuch_0 : decode cX3_isSuch 0 = .ok (.iload 4, 2) := dk_21 4 (dk_at dksX3_isSuch_0 0 rfl rfl)
theorem dX3_isSuch_2 : decode cX3_isSuch 2 = .ok (.tableswitch 85 2 5 #[30, 49, 68, 80], 30) := by decide +kernel
theorem dX3_isSuch_32 : decode cX3_isSuch 32 = .ok (.dload_n 2, 1) := dk_40 (dk_at dksX3_isSuch_2 0 rfl rfl)
theorem dX3_isSuch_33 : decode cX3_isSuch 33 = .ok (.dconst 0, 1) := dk_14 (dk_at dksX3_isSuch_2 1 rfl rfl)
theorem dX3_isSuch_34 : decode cX3_isSuch 34 = .ok (.dcmp .l, 1) := dk_151 (dk_at dksX3_isSuch_2 2 rfl rfl)
theorem dX3_isSuch_35 : decode cX3_isSuch 35 = .ok (.ifCond .ne 14, 3) := dk_154 0 14 (dk_at dksX3_isSuch_2 3 rfl rfl)
theorem dX3_isSuch_38 : decode cX3_isSuch 38 = .ok (.dload_n 2, 1) := dk_40 (dk_at dksX3_isSuch_2 6 rfl rfl)
theorem dX3_isSuch_39 : decode cX3_isSuch 39 = .ok (.invokestatic 224, 3) := dk_184 0 224 (dk_at dksX3_isSuch_2 7 rfl rfl)
theorem dX3_isSuch_42 : decode cX3_isSuch 42 = .ok (.ifCond .ne 7, 3) := dk_154 0 7 (dk_at dksX3_isSuch_2 10 rfl rfl)
theorem dX3_isSuch_45 : decode cX3_isSuch 45 = .ok (.iconst 1, 1) := dk_4 (dk_at dksX3_isSuch_2 13 rfl rfl)
theorem dX3_isSuch_46 : decode cX3_isSuch 46 = .ok (.goto 4, 3) := dk_167 0 4 (dk_at dksX3_isSuch_2 14 rfl rfl)
theorem dX3_isSuch_49 : decode cX3_isSuch 49 = .ok (.iconst 0, 1) := dk_3 (dk_at dksX3_isSuch_2 17 rfl rfl)
theorem dX3_isSuch_50 : decode cX3_isSuch 50 = .ok (.ireturn, 1) := dk_172 (dk_at dksX3_isSuch_2 18 rfl rfl)
theorem dX3_isSuch_51 : decode cX3_isSuch 51 = .ok (.dload_n 2, 1) := dk_40 (dk_at dksX3_isSuch_2 19 rfl rfl)
theorem dX3_isSuch_52 : decode cX3_isSuch 52 = .ok (.dconst 0, 1) := dk_14 (dk_at dksX3_isSuch_2 20 rfl rfl)
theorem dX3_isSuch_53 : decode cX3_isSuch 53 = .ok (.dcmp .l, 1) := dk_151 (dk_at dksX3_isSuch_2 21 rfl rfl)
theorem dX3_isSuch_54 : decode cX3_isSuch 54 = .ok (.ifCond .ne 14, 3) := dk_154 0 14 (dk_at dksX3_isSuch_3 0 rfl rfl)
theorem dX3_isSuch_57 : decode cX3_isSuch 57 = .ok (.dload_n 2, 1) := dk_40 (dk_at dksX3_isSuch_3 3 rfl rfl)
theorem dX3_isSuch_58 : decode cX3_isSuch 58 = .ok (.invokestatic 224, 3) := dk_184 0 224 (dk_at dksX3_isSuch_3 4 rfl rfl)
theorem dX3_isSuch_61 : decode cX3_isSuch 61 = .ok (.ifCond .eq 7, 3) := dk_153 0 7 (dk_at dksX3_isSuch_3 7 rfl rfl)
theorem dX3_isSuch_64 : decode cX3_isSuch 64 = .ok (.iconst 1, 1) := dk_4 (dk_at dksX3_isSuch_3 10 rfl rfl)
theorem dX3_isSuch_65 : decode cX3_isSuch 65 = .ok (.goto 4, 3) := dk_167 0 4 (dk_at dksX3_isSuch_3 11 rfl rfl)
theorem dX3_isSuch_68 : decode cX3_isSuch 68 = .ok (.iconst 0, 1) := dk_3 (dk_at dksX3_isSuch_3 14 rfl rfl)
theorem dX3_isSuch_69 : decode cX3_isSuch 69 = .ok (.ireturn, 1) := dk_172 (dk_at dksX3_isSuch_3 15 rfl rfl)
theorem dX3_isSuch_70 : decode cX3_isSuch 70 = .ok (.dload_n 2, 1) := dk_40 (dk_at dksX3_isSuch_3 16 rfl rfl)
theorem dX3_isSuch_71 : decode cX3_isSuch 71 = .ok (.dconst 0, 1) := dk_14 (dk_at dksX3_isSuch_3 17 rfl rfl)
theorem dX3_isSuch_72 : decode cX3_isSuch 72 = .ok (.dcmp .g, 1) := dk_152 (dk_at dksX3_isSuch_3 18 rfl rfl)
theorem dX3_isSuch_73 : decode cX3_isSuch 73 = .ok (.ifCond .ge 7, 3) := dk_156 0 7 (dk_at dksX3_isSuch_3 19 rfl rfl)
theorem dX3_isSuch_76 : decode cX3_isSuch 76 = .ok (.iconst 1, 1) := dk_4 (dk_at dksX3_isSuch_3 22 rfl rfl)
theorem dX3_isSuch_77 : decode cX3_isSuch 77 = .ok (.goto 4, 3) := dk_167 0 4 (dk_at dksX3_isSuch_4 0 rfl rfl)
theorem dX3_isSuch_80 : decode cX3_isSuch 80 = .ok (.iconst 0, 1) := dk_3 (dk_at dksX3_isSuch_4 3 rfl rfl)
theorem dX3_isSuch_81 : decode cX3_isSuch 81 = .ok (.ireturn, 1) := dk_172 (dk_at dksX3_isSuch_4 4 rfl rfl)
theorem dX3_isSuch_82 : decode cX3_isSuch 82 = .ok (.dload_n 2, 1) := dk_40 (dk_at dksX3_isSuch_4 5 rfl rfl)
theorem dX3_isSuch_83 : decode cX3_isSuch 83 = .ok (.invokestatic 228, 3) := dk_184 0 228 (dk_at dksX3_isSuch_4 6 rfl rfl)
theorem dX3_isSuch_86 : decode cX3_isSuch 86 = .ok (.ireturn, 1) := dk_172 (dk_at dksX3_isSuch_4 9 rfl rfl)
theorem dX3_isSuch_87 : decode cX3_isSuch 87 = .ok (.dload_n 2, 1) := dk_40 (dk_at dksX3_isSuch_4 10 rfl rfl)
theorem dX3_isSuch_88 : decode cX3_isSuch 88 = .ok (.dconst 0, 1) := dk_14 (dk_at dksX3_isSuch_4 11 rfl rfl)
theorem dX3_isSuch_89 : decode cX3_isSuch 89 = .ok (.dcmp .l, 1) := dk_151 (dk_at dksX3_isSuch_4 12 rfl rfl)
theorem dX3_isSuch_90 : decode cX3_isSuch 90 = .ok (.ifCond .eq 33, 3) := dk_153 0 33 (dk_at dksX3_isSuch_4 13 rfl rfl)
theorem dX3_isSuch_93 : decode cX3_isSuch 93 = .ok (.dload_n 2, 1) := dk_40 (dk_at dksX3_isSuch_4 16 rfl rfl)
theorem dX3_isSuch_94 : decode cX3_isSuch 94 = .ok (.invokestatic 173, 3) := dk_184 0 173 (dk_at dksX3_isSuch_4 17 rfl rfl)
theorem dX3_isSuch_97 : decode cX3_isSuch 97 = .ok (.aload_n 0, 1) := dk_42 (dk_at dksX3_isSuch_4 20 rfl rfl)
theorem dX3_isSuch_98 : decode cX3_isSuch 98 = .ok (.getfield 13, 3) := dk_180 0 13 (dk_at dksX3_isSuch_4 21 rfl rfl)
theorem dX3_isSuch_101 : decode cX3_isSuch 101 = .ok (.iload_n 1, 1) := dk_27 (dk_at dksX3_isSuch_5 0 rfl rfl)
theorem dX3_isSuch_102 : decode cX3_isSuch 102 = .ok (.baload, 1) := dk_51 (dk_at dksX3_isSuch_5 1 rfl rfl)
theorem dX3_isSuch_103 : decode cX3_isSuch 103 = .ok (.ifCond .eq 9, 3) := dk_153 0 9 (dk_at dksX3_isSuch_5 2 rfl rfl)
theorem dX3_isSuch_106 : decode cX3_isSuch 106 = .ok (.ldc2_w 231, 3) := dk_20 0 231 (dk_at dksX3_isSuch_5 5 rfl rfl)
theorem dX3_isSuch_109 : decode cX3_isSuch 109 = .ok (.goto 6, 3) := dk_167 0 6 (dk_at dksX3_isSuch_5 8 rfl rfl)
theorem dX3_isSuch_112 : decode cX3_isSuch 112 = .ok (.ldc2_w 233, 3) := dk_20 0 233 (dk_at dksX3_isSuch_5 11 rfl rfl)
theorem dX3_isSuch_115 : decode cX3_isSuch 115 = .ok (.dcmp .g, 1) := dk_152 (dk_at dksX3_isSuch_5 14 rfl rfl)
theorem dX3_isSuch_116 : decode cX3_isSuch 116 = .ok (.ifCond .ge 7, 3) := dk_156 0 7 (dk_at dksX3_isSuch_5 15 rfl rfl)
theorem dX3_isSuch_119 : decode cX3_isSuch 119 = .ok (.iconst 1, 1) := dk_4 (dk_at dksX3_isSuch_5 18 rfl rfl)
theorem dX3_isSuch_120 : decode cX3_isSuch 120 = .ok (.goto 4, 3) := dk_167 0 4 (dk_at dksX3_isSuch_5 19 rfl rfl)
theorem dX3_isSuch_123 : decode cX3_isSuch 123 = .ok (.iconst 0, 1) := dk_3 (dk_at dksX3_isSuch_5 22 rfl rfl)
theorem dX3_isSuch_124 : decode cX3_isSuch 124 = .ok (.ireturn, 1) := dk_172 (dk_at dksX3_isSuch_5 23 rfl rfl)
abbrev cX3_isMinus : ByteArray := prog_27_method_21_code
def yX3_isMinus : MethodName := ⟨RX3, "isMinus", "(D)Z"⟩
def dkwX3_isMinus_0 : List UInt8 := [38, 184, 0, 113, 9, 148, 156, 0, 7, 4, 167, 0, 4, 3, 172]
abbrev dktX3_isMinus_0 : List UInt8 := dkwX3_isMinus_0 ++ []
theorem dksX3_isMinus_0 : cX3_isMinus.data.toList.drop 0 = dktX3_isMinus_0 := by decide +kernel
theorem dX3_isMinus_0 : decode cX3_isMinus 0 = .ok (.dload_n 0, 1) := dk_38 (dk_at dksX3_isMinus_0 0 rfl rfl)
theorem dX3_isMinus_1 : decode cX3_isMinus 1 = .ok (.invokestatic 113, 3) := dk_184 0 113 (dk_at dksX3_isMinus_0 1 rfl rfl)
theorem dX3_isMinus_4 : decode cX3_isMinus 4 = .ok (.lconst 0, 1) := dk_9 (dk_at dksX3_isMinus_0 4 rfl rfl)
theorem dX3_isMinus_5 : decode cX3_isMinus 5 = .ok (.lcmp, 1) := dk_148 (dk_at dksX3_isMinus_0 5 rfl rfl)
theorem dX3_isMinus_6 : decode cX3_isMinus 6 = .ok (.ifCond .ge 7, 3) := dk_156 0 7 (dk_at dksX3_isMinus_0 6 rfl rfl)
theorem dX3_isMinus_9 : decode cX3_isMinus 9 = .ok (.iconst 1, 1) := dk_4 (dk_at dksX3_isMinus_0 9 rfl rfl)
theorem dX3_isMinus_10 : decode cX3_isMinus 10 = .ok (.goto 4, 3) := dk_167 0 4 (dk_at dksX3_isMinus_0 10 rfl rfl)
theorem dX3_isMinus_13 : decode cX3_isMinus 13 = .ok (.iconst 0, 1) := dk_3 (dk_at dksX3_isMinus_0 13 rfl rfl)
theorem dX3_isMinus_14 : decode cX3_isMinus 14 = .ok (.ireturn, 1) := dk_172 (dk_at dksX3_isMinus_0 14 rfl rfl)
abbrev cX3_isWhole : ByteArray := prog_27_method_33_code
def yX3_isWhole : MethodName := ⟨RX3, "isWhole", "(D)Z"⟩
def dkwX3_isWhole_1 : List UInt8 := [4, 167, 0, 4, 3, 172]
abbrev dktX3_isWhole_1 : List UInt8 := dkwX3_isWhole_1 ++ []
def dkwX3_isWhole_0 : List UInt8 := [38, 20, 0, 220, 151, 156, 0, 19, 38, 20, 0, 222, 152, 158, 0, 11, 38, 143, 138, 38, 151, 154, 0, 7]
abbrev dktX3_isWhole_0 : List UInt8 := dkwX3_isWhole_0 ++ dktX3_isWhole_1
theorem dksX3_isWhole_0 : cX3_isWhole.data.toList.drop 0 = dktX3_isWhole_0 := by decide +kernel
theorem dksX3_isWhole_1 : cX3_isWhole.data.toList.drop 24 = dktX3_isWhole_1 := dk_seg dksX3_isWhole_0 24 rfl rfl
theorem dX3_isWhole_0 : decode cX3_isWhole 0 = .ok (.dload_n 0, 1) := dk_38 (dk_at dksX3_isWhole_0 0 rfl rfl)
theorem dX3_isWhole_1 : decode cX3_isWhole 1 = .ok (.ldc2_w 220, 3) := dk_20 0 220 (dk_at dksX3_isWhole_0 1 rfl rfl)
theorem dX3_isWhole_4 : decode cX3_isWhole 4 = .ok (.dcmp .l, 1) := dk_151 (dk_at dksX3_isWhole_0 4 rfl rfl)
theorem dX3_isWhole_5 : decode cX3_isWhole 5 = .ok (.ifCond .ge 19, 3) := dk_156 0 19 (dk_at dksX3_isWhole_0 5 rfl rfl)
theorem dX3_isWhole_8 : decode cX3_isWhole 8 = .ok (.dload_n 0, 1) := dk_38 (dk_at dksX3_isWhole_0 8 rfl rfl)
theorem dX3_isWhole_9 : decode cX3_isWhole 9 = .ok (.ldc2_w 222, 3) := dk_20 0 222 (dk_at dksX3_isWhole_0 9 rfl rfl)
theorem dX3_isWhole_12 : decode cX3_isWhole 12 = .ok (.dcmp .g, 1) := dk_152 (dk_at dksX3_isWhole_0 12 rfl rfl)
theorem dX3_isWhole_13 : decode cX3_isWhole 13 = .ok (.ifCond .le 11, 3) := dk_158 0 11 (dk_at dksX3_isWhole_0 13 rfl rfl)
theorem dX3_isWhole_16 : decode cX3_isWhole 16 = .ok (.dload_n 0, 1) := dk_38 (dk_at dksX3_isWhole_0 16 rfl rfl)
theorem dX3_isWhole_17 : decode cX3_isWhole 17 = .ok (.d2l, 1) := dk_143 (dk_at dksX3_isWhole_0 17 rfl rfl)
theorem dX3_isWhole_18 : decode cX3_isWhole 18 = .ok (.l2d, 1) := dk_138 (dk_at dksX3_isWhole_0 18 rfl rfl)
theorem dX3_isWhole_19 : decode cX3_isWhole 19 = .ok (.dload_n 0, 1) := dk_38 (dk_at dksX3_isWhole_0 19 rfl rfl)
theorem dX3_isWhole_20 : decode cX3_isWhole 20 = .ok (.dcmp .l, 1) := dk_151 (dk_at dksX3_isWhole_0 20 rfl rfl)
theorem dX3_isWhole_21 : decode cX3_isWhole 21 = .ok (.ifCond .ne 7, 3) := dk_154 0 7 (dk_at dksX3_isWhole_0 21 rfl rfl)
theorem dX3_isWhole_24 : decode cX3_isWhole 24 = .ok (.iconst 1, 1) := dk_4 (dk_at dksX3_isWhole_1 0 rfl rfl)
theorem dX3_isWhole_25 : decode cX3_isWhole 25 = .ok (.goto 4, 3) := dk_167 0 4 (dk_at dksX3_isWhole_1 1 rfl rfl)
theorem dX3_isWhole_28 : decode cX3_isWhole 28 = .ok (.iconst 0, 1) := dk_3 (dk_at dksX3_isWhole_1 4 rfl rfl)
theorem dX3_isWhole_29 : decode cX3_isWhole 29 = .ok (.ireturn, 1) := dk_172 (dk_at dksX3_isWhole_1 5 rfl rfl)
abbrev cX3_sizeOf : ByteArray := prog_27_method_20_code
def yX3_sizeOf : MethodName := ⟨RX3, "sizeOf", "(D)D"⟩
def dkwX3_sizeOf_0 : List UInt8 := [38, 14, 152, 156, 0, 8, 38, 119, 167, 0, 14, 38, 14, 151, 154, 0, 7, 14, 167, 0, 4, 38, 175]
abbrev dktX3_sizeOf_0 : List UInt8 := dkwX3_sizeOf_0 ++ []
theorem dksX3_sizeOf_0 : cX3_sizeOf.data.toList.drop 0 = dktX3_sizeOf_0 := by decide +kernel
theorem dX3_sizeOf_0 : decode cX3_sizeOf 0 = .ok (.dload_n 0, 1) := dk_38 (dk_at dksX3_sizeOf_0 0 rfl rfl)
theorem dX3_sizeOf_1 : decode cX3_sizeOf 1 = .ok (.dconst 0, 1) := dk_14 (dk_at dksX3_sizeOf_0 1 rfl rfl)
theorem dX3_sizeOf_2 : decode cX3_sizeOf 2 = .ok (.dcmp .g, 1) := dk_152 (dk_at dksX3_sizeOf_0 2 rfl rfl)
theorem dX3_sizeOf_3 : decode cX3_sizeOf 3 = .ok (.ifCond .ge 8, 3) := dk_156 0 8 (dk_at dksX3_sizeOf_0 3 rfl rfl)
theorem dX3_sizeOf_6 : decode cX3_sizeOf 6 = .ok (.dload_n 0, 1) := dk_38 (dk_at dksX3_sizeOf_0 6 rfl rfl)
theorem dX3_sizeOf_7 : decode cX3_sizeOf 7 = .ok (.dneg, 1) := dk_119 (dk_at dksX3_sizeOf_0 7 rfl rfl)
theorem dX3_sizeOf_8 : decode cX3_sizeOf 8 = .ok (.goto 14, 3) := dk_167 0 14 (dk_at dksX3_sizeOf_0 8 rfl rfl)
theorem dX3_sizeOf_11 : decode cX3_sizeOf 11 = .ok (.dload_n 0, 1) := dk_38 (dk_at dksX3_sizeOf_0 11 rfl rfl)
theorem dX3_sizeOf_12 : decode cX3_sizeOf 12 = .ok (.dconst 0, 1) := dk_14 (dk_at dksX3_sizeOf_0 12 rfl rfl)
theorem dX3_sizeOf_13 : decode cX3_sizeOf 13 = .ok (.dcmp .l, 1) := dk_151 (dk_at dksX3_sizeOf_0 13 rfl rfl)
theorem dX3_sizeOf_14 : decode cX3_sizeOf 14 = .ok (.ifCond .ne 7, 3) := dk_154 0 7 (dk_at dksX3_sizeOf_0 14 rfl rfl)
theorem dX3_sizeOf_17 : decode cX3_sizeOf 17 = .ok (.dconst 0, 1) := dk_14 (dk_at dksX3_sizeOf_0 17 rfl rfl)
theorem dX3_sizeOf_18 : decode cX3_sizeOf 18 = .ok (.goto 4, 3) := dk_167 0 4 (dk_at dksX3_sizeOf_0 18 rfl rfl)
theorem dX3_sizeOf_21 : decode cX3_sizeOf 21 = .ok (.dload_n 0, 1) := dk_38 (dk_at dksX3_sizeOf_0 21 rfl rfl)
theorem dX3_sizeOf_22 : decode cX3_sizeOf 22 = .ok (.dreturn, 1) := dk_175 (dk_at dksX3_sizeOf_0 22 rfl rfl)
abbrev cX3_filter : ByteArray := prog_27_method_38_code
def yX3_filter : MethodName := ⟨RX3, "filter", "(III)I"⟩
def dkwX3_filter_4 : List UInt8 := [28, 21, 4, 182, 0, 246, 132, 4, 1, 167, 255, 215, 42, 27, 42, 180, 0, 13, 28, 51, 182, 0, 249, 172]
abbrev dktX3_filter_4 : List UInt8 := dkwX3_filter_4 ++ []
def dkwX3_filter_3 : List UInt8 := [162, 0, 36, 29, 155, 0, 19, 42, 180, 0, 21, 16, 60, 28, 104, 21, 4, 96, 46, 29, 160, 0, 10, 42]
abbrev dktX3_filter_3 : List UInt8 := dkwX3_filter_3 ++ dktX3_filter_4
def dkwX3_filter_2 : List UInt8 := [180, 0, 94, 153, 0, 5, 3, 172, 42, 3, 181, 0, 241, 3, 54, 4, 21, 4, 42, 180, 0, 7, 28, 46]
abbrev dktX3_filter_2 : List UInt8 := dkwX3_filter_2 ++ dktX3_filter_3
def dkwX3_filter_1 : List UInt8 := [133, 9, 20, 0, 97, 184, 0, 99, 154, 0, 7, 5, 167, 0, 8, 42, 28, 182, 0, 103, 181, 0, 94, 42]
abbrev dktX3_filter_1 : List UInt8 := dkwX3_filter_1 ++ dktX3_filter_2
def dkwX3_filter_0 : List UInt8 := [42, 3, 181, 0, 94, 29, 133, 20, 0, 244, 20, 0, 212, 184, 0, 99, 154, 0, 6, 16, 154, 172, 42, 27]
abbrev dktX3_filter_0 : List UInt8 := dkwX3_filter_0 ++ dktX3_filter_1
theorem dksX3_filter_0 : cX3_filter.data.toList.drop 0 = dktX3_filter_0 := by decide +kernel
theorem dksX3_filter_1 : cX3_filter.data.toList.drop 24 = dktX3_filter_1 := dk_seg dksX3_filter_0 24 rfl rfl
theorem dksX3_filter_2 : cX3_filter.data.toList.drop 48 = dktX3_filter_2 := dk_seg dksX3_filter_1 24 rfl rfl
theorem dksX3_filter_3 : cX3_filter.data.toList.drop 72 = dktX3_filter_3 := dk_seg dksX3_filter_2 24 rfl rfl
theorem dksX3_filter_4 : cX3_filter.data.toList.drop 96 = dktX3_filter_4 := dk_seg dksX3_filter_3 24 rfl rfl
theorem dX3_filter_0 : decode cX3_filter 0 = .ok (.aload_n 0, 1) := dk_42 (dk_at dksX3_filter_0 0 rfl rfl)
theorem dX3_filter_1 : decode cX3_filter 1 = .ok (.iconst 0, 1) := dk_3 (dk_at dksX3_filter_0 1 rfl rfl)
theorem dX3_filter_2 : decode cX3_filter 2 = .ok (.putfield 94, 3) := dk_181 0 94 (dk_at dksX3_filter_0 2 rfl rfl)
theorem dX3_filter_5 : decode cX3_filter 5 = .ok (.iload_n 3, 1) := dk_29 (dk_at dksX3_filter_0 5 rfl rfl)
theorem dX3_filter_6 : decode cX3_filter 6 = .ok (.i2l, 1) := dk_133 (dk_at dksX3_filter_0 6 rfl rfl)
theorem dX3_filter_7 : decode cX3_filter 7 = .ok (.ldc2_w 244, 3) := dk_20 0 244 (dk_at dksX3_filter_0 7 rfl rfl)
theorem dX3_filter_10 : decode cX3_filter 10 = .ok (.ldc2_w 212, 3) := dk_20 0 212 (dk_at dksX3_filter_0 10 rfl rfl)
theorem dX3_filter_13 : decode cX3_filter 13 = .ok (.invokestatic 99, 3) := dk_184 0 99 (dk_at dksX3_filter_0 13 rfl rfl)
theorem dX3_filter_16 : decode cX3_filter 16 = .ok (.ifCond .ne 6, 3) := dk_154 0 6 (dk_at dksX3_filter_0 16 rfl rfl)
theorem dX3_filter_19 : decode cX3_filter 19 = .ok (.bipush (-102), 2) := dk_16 154 (dk_at dksX3_filter_0 19 rfl rfl)
theorem dX3_filter_21 : decode cX3_filter 21 = .ok (.ireturn, 1) := dk_172 (dk_at dksX3_filter_0 21 rfl rfl)
theorem dX3_filter_22 : decode cX3_filter 22 = .ok (.aload_n 0, 1) := dk_42 (dk_at dksX3_filter_0 22 rfl rfl)
theorem dX3_filter_23 : decode cX3_filter 23 = .ok (.iload_n 1, 1) := dk_27 (dk_at dksX3_filter_0 23 rfl rfl)
theorem dX3_filter_24 : decode cX3_filter 24 = .ok (.i2l, 1) := dk_133 (dk_at dksX3_filter_1 0 rfl rfl)
theorem dX3_filter_25 : decode cX3_filter 25 = .ok (.lconst 0, 1) := dk_9 (dk_at dksX3_filter_1 1 rfl rfl)
theorem dX3_filter_26 : decode cX3_filter 26 = .ok (.ldc2_w 97, 3) := dk_20 0 97 (dk_at dksX3_filter_1 2 rfl rfl)
theorem dX3_filter_29 : decode cX3_filter 29 = .ok (.invokestatic 99, 3) := dk_184 0 99 (dk_at dksX3_filter_1 5 rfl rfl)
theorem dX3_filter_32 : decode cX3_filter 32 = .ok (.ifCond .ne 7, 3) := dk_154 0 7 (dk_at dksX3_filter_1 8 rfl rfl)
theorem dX3_filter_35 : decode cX3_filter 35 = .ok (.iconst 2, 1) := dk_5 (dk_at dksX3_filter_1 11 rfl rfl)
theorem dX3_filter_36 : decode cX3_filter 36 = .ok (.goto 8, 3) := dk_167 0 8 (dk_at dksX3_filter_1 12 rfl rfl)
theorem dX3_filter_39 : decode cX3_filter 39 = .ok (.aload_n 0, 1) := dk_42 (dk_at dksX3_filter_1 15 rfl rfl)
theorem dX3_filter_40 : decode cX3_filter 40 = .ok (.iload_n 2, 1) := dk_28 (dk_at dksX3_filter_1 16 rfl rfl)
theorem dX3_filter_41 : decode cX3_filter 41 = .ok (.invokevirtual 103, 3) := dk_182 0 103 (dk_at dksX3_filter_1 17 rfl rfl)
theorem dX3_filter_44 : decode cX3_filter 44 = .ok (.putfield 94, 3) := dk_181 0 94 (dk_at dksX3_filter_1 20 rfl rfl)
theorem dX3_filter_47 : decode cX3_filter 47 = .ok (.aload_n 0, 1) := dk_42 (dk_at dksX3_filter_1 23 rfl rfl)
theorem dX3_filter_48 : decode cX3_filter 48 = .ok (.getfield 94, 3) := dk_180 0 94 (dk_at dksX3_filter_2 0 rfl rfl)
theorem dX3_filter_51 : decode cX3_filter 51 = .ok (.ifCond .eq 5, 3) := dk_153 0 5 (dk_at dksX3_filter_2 3 rfl rfl)
theorem dX3_filter_54 : decode cX3_filter 54 = .ok (.iconst 0, 1) := dk_3 (dk_at dksX3_filter_2 6 rfl rfl)
theorem dX3_filter_55 : decode cX3_filter 55 = .ok (.ireturn, 1) := dk_172 (dk_at dksX3_filter_2 7 rfl rfl)
theorem dX3_filter_56 : decode cX3_filter 56 = .ok (.aload_n 0, 1) := dk_42 (dk_at dksX3_filter_2 8 rfl rfl)
theorem dX3_filter_57 : decode cX3_filter 57 = .ok (.iconst 0, 1) := dk_3 (dk_at dksX3_filter_2 9 rfl rfl)
theorem dX3_filter_58 : decode cX3_filter 58 = .ok (.putfield 241, 3) := dk_181 0 241 (dk_at dksX3_filter_2 10 rfl rfl)
theorem dX3_filter_61 : decode cX3_filter 61 = .ok (.iconst 0, 1) := dk_3 (dk_at dksX3_filter_2 13 rfl rfl)
theorem dX3_filter_62 : decode cX3_filter 62 = .ok (.istore 4, 2) := dk_54 4 (dk_at dksX3_filter_2 14 rfl rfl)
theorem dX3_filter_64 : decode cX3_filter 64 = .ok (.iload 4, 2) := dk_21 4 (dk_at dksX3_filter_2 16 rfl rfl)
theorem dX3_filter_66 : decode cX3_filter 66 = .ok (.aload_n 0, 1) := dk_42 (dk_at dksX3_filter_2 18 rfl rfl)
theorem dX3_filter_67 : decode cX3_filter 67 = .ok (.getfield 7, 3) := dk_180 0 7 (dk_at dksX3_filter_2 19 rfl rfl)
theorem dX3_filter_70 : decode cX3_filter 70 = .ok (.iload_n 2, 1) := dk_28 (dk_at dksX3_filter_2 22 rfl rfl)
theorem dX3_filter_71 : decode cX3_filter 71 = .ok (.iaload, 1) := dk_46 (dk_at dksX3_filter_2 23 rfl rfl)
theorem dX3_filter_72 : decode cX3_filter 72 = .ok (.if_icmp .ge 36, 3) := dk_162 0 36 (dk_at dksX3_filter_3 0 rfl rfl)
theorem dX3_filter_75 : decode cX3_filter 75 = .ok (.iload_n 3, 1) := dk_29 (dk_at dksX3_filter_3 3 rfl rfl)
theorem dX3_filter_76 : decode cX3_filter 76 = .ok (.ifCond .lt 19, 3) := dk_155 0 19 (dk_at dksX3_filter_3 4 rfl rfl)
theorem dX3_filter_79 : decode cX3_filter 79 = .ok (.aload_n 0, 1) := dk_42 (dk_at dksX3_filter_3 7 rfl rfl)
theorem dX3_filter_80 : decode cX3_filter 80 = .ok (.getfield 21, 3) := dk_180 0 21 (dk_at dksX3_filter_3 8 rfl rfl)
theorem dX3_filter_83 : decode cX3_filter 83 = .ok (.bipush 60, 2) := dk_16 60 (dk_at dksX3_filter_3 11 rfl rfl)
theorem dX3_filter_85 : decode cX3_filter 85 = .ok (.iload_n 2, 1) := dk_28 (dk_at dksX3_filter_3 13 rfl rfl)
theorem dX3_filter_86 : decode cX3_filter 86 = .ok (.imul, 1) := dk_104 (dk_at dksX3_filter_3 14 rfl rfl)
theorem dX3_filter_87 : decode cX3_filter 87 = .ok (.iload 4, 2) := dk_21 4 (dk_at dksX3_filter_3 15 rfl rfl)
theorem dX3_filter_89 : decode cX3_filter 89 = .ok (.iadd, 1) := dk_96 (dk_at dksX3_filter_3 17 rfl rfl)
theorem dX3_filter_90 : decode cX3_filter 90 = .ok (.iaload, 1) := dk_46 (dk_at dksX3_filter_3 18 rfl rfl)
theorem dX3_filter_91 : decode cX3_filter 91 = .ok (.iload_n 3, 1) := dk_29 (dk_at dksX3_filter_3 19 rfl rfl)
theorem dX3_filter_92 : decode cX3_filter 92 = .ok (.if_icmp .ne 10, 3) := dk_160 0 10 (dk_at dksX3_filter_3 20 rfl rfl)
theorem dX3_filter_95 : decode cX3_filter 95 = .ok (.aload_n 0, 1) := dk_42 (dk_at dksX3_filter_3 23 rfl rfl)
theorem dX3_filter_96 : decode cX3_filter 96 = .ok (.iload_n 2, 1) := dk_28 (dk_at dksX3_filter_4 0 rfl rfl)
theorem dX3_filter_97 : decode cX3_filter 97 = .ok (.iload 4, 2) := dk_21 4 (dk_at dksX3_filter_4 1 rfl rfl)
theorem dX3_filter_99 : decode cX3_filter 99 = .ok (.invokevirtual 246, 3) := dk_182 0 246 (dk_at dksX3_filter_4 3 rfl rfl)
theorem dX3_filter_102 : decode cX3_filter 102 = .ok (.iinc 4 1, 3) := dk_132 4 1 (dk_at dksX3_filter_4 6 rfl rfl)
theorem dX3_filter_105 : decode cX3_filter 105 = .ok (.goto (-41), 3) := dk_167 255 215 (dk_at dksX3_filter_4 9 rfl rfl)
theorem dX3_filter_108 : decode cX3_filter 108 = .ok (.aload_n 0, 1) := dk_42 (dk_at dksX3_filter_4 12 rfl rfl)
theorem dX3_filter_109 : decode cX3_filter 109 = .ok (.iload_n 1, 1) := dk_27 (dk_at dksX3_filter_4 13 rfl rfl)
theorem dX3_filter_110 : decode cX3_filter 110 = .ok (.aload_n 0, 1) := dk_42 (dk_at dksX3_filter_4 14 rfl rfl)
theorem dX3_filter_111 : decode cX3_filter 111 = .ok (.getfield 13, 3) := dk_180 0 13 (dk_at dksX3_filter_4 15 rfl rfl)
theorem dX3_filter_114 : decode cX3_filter 114 = .ok (.iload_n 2, 1) := dk_28 (dk_at dksX3_filter_4 18 rfl rfl)
theorem dX3_filter_115 : decode cX3_filter 115 = .ok (.baload, 1) := dk_51 (dk_at dksX3_filter_4 19 rfl rfl)
theorem dX3_filter_116 : decode cX3_filter 116 = .ok (.invokevirtual 249, 3) := dk_182 0 249 (dk_at dksX3_filter_4 20 rfl rfl)
theorem dX3_filter_119 : decode cX3_filter 119 = .ok (.ireturn, 1) := dk_172 (dk_at dksX3_filter_4 23 rfl rfl)
abbrev cX3_toSpare : ByteArray := prog_27_method_36_code
def yX3_toSpare : MethodName := ⟨RX3, "toSpare", "(II)V"⟩
def dkwX3_toSpare_2 : List UInt8 := [42, 180, 0, 24, 16, 60, 27, 104, 28, 96, 46, 79, 42, 89, 180, 0, 241, 4, 96, 181, 0, 241, 177]
abbrev dktX3_toSpare_2 : List UInt8 := dkwX3_toSpare_2 ++ []
def dkwX3_toSpare_1 : List UInt8 := [42, 180, 0, 241, 42, 180, 0, 21, 16, 60, 27, 104, 28, 96, 46, 79, 42, 180, 0, 66, 42, 180, 0, 241]
abbrev dktX3_toSpare_1 : List UInt8 := dkwX3_toSpare_1 ++ dktX3_toSpare_2
def dkwX3_toSpare_0 : List UInt8 := [42, 180, 0, 60, 42, 180, 0, 241, 42, 180, 0, 17, 16, 60, 27, 104, 28, 96, 49, 82, 42, 180, 0, 63]
abbrev dktX3_toSpare_0 : List UInt8 := dkwX3_toSpare_0 ++ dktX3_toSpare_1
theorem dksX3_toSpare_0 : cX3_toSpare.data.toList.drop 0 = dktX3_toSpare_0 := by decide +kernel
theorem dksX3_toSpare_1 : cX3_toSpare.data.toList.drop 24 = dktX3_toSpare_1 := dk_seg dksX3_toSpare_0 24 rfl rfl
theorem dksX3_toSpare_2 : cX3_toSpare.data.toList.drop 48 = dktX3_toSpare_2 := dk_seg dksX3_toSpare_1 24 rfl rfl
theorem dX3_toSpare_0 : decode cX3_toSpare 0 = .ok (.aload_n 0, 1) := dk_42 (dk_at dksX3_toSpare_0 0 rfl rfl)
theorem dX3_toSpare_1 : decode cX3_toSpare 1 = .ok (.getfield 60, 3) := dk_180 0 60 (dk_at dksX3_toSpare_0 1 rfl rfl)
theorem dX3_toSpare_4 : decode cX3_toSpare 4 = .ok (.aload_n 0, 1) := dk_42 (dk_at dksX3_toSpare_0 4 rfl rfl)
theorem dX3_toSpare_5 : decode cX3_toSpare 5 = .ok (.getfield 241, 3) := dk_180 0 241 (dk_at dksX3_toSpare_0 5 rfl rfl)
theorem dX3_toSpare_8 : decode cX3_toSpare 8 = .ok (.aload_n 0, 1) := dk_42 (dk_at dksX3_toSpare_0 8 rfl rfl)
theorem dX3_toSpare_9 : decode cX3_toSpare 9 = .ok (.getfield 17, 3) := dk_180 0 17 (dk_at dksX3_toSpare_0 9 rfl rfl)
theorem dX3_toSpare_12 : decode cX3_toSpare 12 = .ok (.bipush 60, 2) := dk_16 60 (dk_at dksX3_toSpare_0 12 rfl rfl)
theorem dX3_toSpare_14 : decode cX3_toSpare 14 = .ok (.iload_n 1, 1) := dk_27 (dk_at dksX3_toSpare_0 14 rfl rfl)
theorem dX3_toSpare_15 : decode cX3_toSpare 15 = .ok (.imul, 1) := dk_104 (dk_at dksX3_toSpare_0 15 rfl rfl)
theorem dX3_toSpare_16 : decode cX3_toSpare 16 = .ok (.iload_n 2, 1) := dk_28 (dk_at dksX3_toSpare_0 16 rfl rfl)
theorem dX3_toSpare_17 : decode cX3_toSpare 17 = .ok (.iadd, 1) := dk_96 (dk_at dksX3_toSpare_0 17 rfl rfl)
theorem dX3_toSpare_18 : decode cX3_toSpare 18 = .ok (.daload, 1) := dk_49 (dk_at dksX3_toSpare_0 18 rfl rfl)
theorem dX3_toSpare_19 : decode cX3_toSpare 19 = .ok (.dastore, 1) := dk_82 (dk_at dksX3_toSpare_0 19 rfl rfl)
theorem dX3_toSpare_20 : decode cX3_toSpare 20 = .ok (.aload_n 0, 1) := dk_42 (dk_at dksX3_toSpare_0 20 rfl rfl)
theorem dX3_toSpare_21 : decode cX3_toSpare 21 = .ok (.getfield 63, 3) := dk_180 0 63 (dk_at dksX3_toSpare_0 21 rfl rfl)
theorem dX3_toSpare_24 : decode cX3_toSpare 24 = .ok (.aload_n 0, 1) := dk_42 (dk_at dksX3_toSpare_1 0 rfl rfl)
theorem dX3_toSpare_25 : decode cX3_toSpare 25 = .ok (.getfield 241, 3) := dk_180 0 241 (dk_at dksX3_toSpare_1 1 rfl rfl)
theorem dX3_toSpare_28 : decode cX3_toSpare 28 = .ok (.aload_n 0, 1) := dk_42 (dk_at dksX3_toSpare_1 4 rfl rfl)
theorem dX3_toSpare_29 : decode cX3_toSpare 29 = .ok (.getfield 21, 3) := dk_180 0 21 (dk_at dksX3_toSpare_1 5 rfl rfl)
theorem dX3_toSpare_32 : decode cX3_toSpare 32 = .ok (.bipush 60, 2) := dk_16 60 (dk_at dksX3_toSpare_1 8 rfl rfl)
theorem dX3_toSpare_34 : decode cX3_toSpare 34 = .ok (.iload_n 1, 1) := dk_27 (dk_at dksX3_toSpare_1 10 rfl rfl)
theorem dX3_toSpare_35 : decode cX3_toSpare 35 = .ok (.imul, 1) := dk_104 (dk_at dksX3_toSpare_1 11 rfl rfl)
theorem dX3_toSpare_36 : decode cX3_toSpare 36 = .ok (.iload_n 2, 1) := dk_28 (dk_at dksX3_toSpare_1 12 rfl rfl)
theorem dX3_toSpare_37 : decode cX3_toSpare 37 = .ok (.iadd, 1) := dk_96 (dk_at dksX3_toSpare_1 13 rfl rfl)
theorem dX3_toSpare_38 : decode cX3_toSpare 38 = .ok (.iaload, 1) := dk_46 (dk_at dksX3_toSpare_1 14 rfl rfl)
theorem dX3_toSpare_39 : decode cX3_toSpare 39 = .ok (.iastore, 1) := dk_79 (dk_at dksX3_toSpare_1 15 rfl rfl)
theorem dX3_toSpare_40 : decode cX3_toSpare 40 = .ok (.aload_n 0, 1) := dk_42 (dk_at dksX3_toSpare_1 16 rfl rfl)
theorem dX3_toSpare_41 : decode cX3_toSpare 41 = .ok (.getfield 66, 3) := dk_180 0 66 (dk_at dksX3_toSpare_1 17 rfl rfl)
theorem dX3_toSpare_44 : decode cX3_toSpare 44 = .ok (.aload_n 0, 1) := dk_42 (dk_at dksX3_toSpare_1 20 rfl rfl)
theorem dX3_toSpare_45 : decode cX3_toSpare 45 = .ok (.getfield 241, 3) := dk_180 0 241 (dk_at dksX3_toSpare_1 21 rfl rfl)
theorem dX3_toSpare_48 : decode cX3_toSpare 48 = .ok (.aload_n 0, 1) := dk_42 (dk_at dksX3_toSpare_2 0 rfl rfl)
theorem dX3_toSpare_49 : decode cX3_toSpare 49 = .ok (.getfield 24, 3) := dk_180 0 24 (dk_at dksX3_toSpare_2 1 rfl rfl)
theorem dX3_toSpare_52 : decode cX3_toSpare 52 = .ok (.bipush 60, 2) := dk_16 60 (dk_at dksX3_toSpare_2 4 rfl rfl)
theorem dX3_toSpare_54 : decode cX3_toSpare 54 = .ok (.iload_n 1, 1) := dk_27 (dk_at dksX3_toSpare_2 6 rfl rfl)
theorem dX3_toSpare_55 : decode cX3_toSpare 55 = .ok (.imul, 1) := dk_104 (dk_at dksX3_toSpare_2 7 rfl rfl)
theorem dX3_toSpare_56 : decode cX3_toSpare 56 = .ok (.iload_n 2, 1) := dk_28 (dk_at dksX3_toSpare_2 8 rfl rfl)
theorem dX3_toSpare_57 : decode cX3_toSpare 57 = .ok (.iadd, 1) := dk_96 (dk_at dksX3_toSpare_2 9 rfl rfl)
theorem dX3_toSpare_58 : decode cX3_toSpare 58 = .ok (.iaload, 1) := dk_46 (dk_at dksX3_toSpare_2 10 rfl rfl)
theorem dX3_toSpare_59 : decode cX3_toSpare 59 = .ok (.iastore, 1) := dk_79 (dk_at dksX3_toSpare_2 11 rfl rfl)
theorem dX3_toSpare_60 : decode cX3_toSpare 60 = .ok (.aload_n 0, 1) := dk_42 (dk_at dksX3_toSpare_2 12 rfl rfl)
theorem dX3_toSpare_61 : decode cX3_toSpare 61 = .ok (.dup, 1) := dk_89 (dk_at dksX3_toSpare_2 13 rfl rfl)
theorem dX3_toSpare_62 : decode cX3_toSpare 62 = .ok (.getfield 241, 3) := dk_180 0 241 (dk_at dksX3_toSpare_2 14 rfl rfl)
theorem dX3_toSpare_65 : decode cX3_toSpare 65 = .ok (.iconst 1, 1) := dk_4 (dk_at dksX3_toSpare_2 17 rfl rfl)
theorem dX3_toSpare_66 : decode cX3_toSpare 66 = .ok (.iadd, 1) := dk_96 (dk_at dksX3_toSpare_2 18 rfl rfl)
theorem dX3_toSpare_67 : decode cX3_toSpare 67 = .ok (.putfield 241, 3) := dk_181 0 241 (dk_at dksX3_toSpare_2 19 rfl rfl)
theorem dX3_toSpare_70 : decode cX3_toSpare 70 = .ok (.return_, 1) := dk_177 (dk_at dksX3_toSpare_2 22 rfl rfl)
abbrev cX3_fromSpare : ByteArray := prog_27_method_37_code
def yX3_fromSpare : MethodName := ⟨RX3, "fromSpare", "(IZ)I"⟩
def dkwX3_fromSpare_3 : List UInt8 := [132, 3, 1, 167, 255, 194, 42, 180, 0, 241, 172]
abbrev dktX3_fromSpare_3 : List UInt8 := dkwX3_fromSpare_3 ++ []
def dkwX3_fromSpare_2 : List UInt8 := [180, 0, 63, 29, 46, 79, 42, 180, 0, 24, 16, 60, 27, 104, 29, 96, 42, 180, 0, 66, 29, 46, 79]
abbrev dktX3_fromSpare_2 : List UInt8 := dkwX3_fromSpare_2 ++ dktX3_fromSpare_3
def dkwX3_fromSpare_1 : List UInt8 := [16, 60, 27, 104, 29, 96, 42, 180, 0, 60, 29, 49, 82, 42, 180, 0, 21, 16, 60, 27, 104, 29, 96, 42]
abbrev dktX3_fromSpare_1 : List UInt8 := dkwX3_fromSpare_1 ++ dktX3_fromSpare_2
def dkwX3_fromSpare_0 : List UInt8 := [42, 27, 28, 42, 180, 0, 241, 182, 0, 196, 3, 62, 29, 42, 180, 0, 241, 162, 0, 60, 42, 180, 0, 17]
abbrev dktX3_fromSpare_0 : List UInt8 := dkwX3_fromSpare_0 ++ dktX3_fromSpare_1
theorem dksX3_fromSpare_0 : cX3_fromSpare.data.toList.drop 0 = dktX3_fromSpare_0 := by decide +kernel
theorem dksX3_fromSpare_1 : cX3_fromSpare.data.toList.drop 24 = dktX3_fromSpare_1 := dk_seg dksX3_fromSpare_0 24 rfl rfl
theorem dksX3_fromSpare_2 : cX3_fromSpare.data.toList.drop 48 = dktX3_fromSpare_2 := dk_seg dksX3_fromSpare_1 24 rfl rfl
theorem dksX3_fromSpare_3 : cX3_fromSpare.data.toList.drop 71 = dktX3_fromSpare_3 := dk_seg dksX3_fromSpare_2 23 rfl rfl
theorem dX3_fromSpare_0 : decode cX3_fromSpare 0 = .ok (.aload_n 0, 1) := dk_42 (dk_at dksX3_fromSpare_0 0 rfl rfl)
theorem dX3_fromSpare_1 : decode cX3_fromSpare 1 = .ok (.iload_n 1, 1) := dk_27 (dk_at dksX3_fromSpare_0 1 rfl rfl)
theorem dX3_fromSpare_2 : decode cX3_fromSpare 2 = .ok (.iload_n 2, 1) := dk_28 (dk_at dksX3_fromSpare_0 2 rfl rfl)
theorem dX3_fromSpare_3 : decode cX3_fromSpare 3 = .ok (.aload_n 0, 1) := dk_42 (dk_at dksX3_fromSpare_0 3 rfl rfl)
theorem dX3_fromSpare_4 : decode cX3_fromSpare 4 = .ok (.getfield 241, 3) := dk_180 0 241 (dk_at dksX3_fromSpare_0 4 rfl rfl)
theorem dX3_fromSpare_7 : decode cX3_fromSpare 7 = .ok (.invokevirtual 196, 3) := dk_182 0 196 (dk_at dksX3_fromSpare_0 7 rfl rfl)
theorem dX3_fromSpare_10 : decode cX3_fromSpare 10 = .ok (.iconst 0, 1) := dk_3 (dk_at dksX3_fromSpare_0 10 rfl rfl)
theorem dX3_fromSpare_11 : decode cX3_fromSpare 11 = .ok (.istore_n 3, 1) := dk_62 (dk_at dksX3_fromSpare_0 11 rfl rfl)
theorem dX3_fromSpare_12 : decode cX3_fromSpare 12 = .ok (.iload_n 3, 1) := dk_29 (dk_at dksX3_fromSpare_0 12 rfl rfl)
theorem dX3_fromSpare_13 : decode cX3_fromSpare 13 = .ok (.aload_n 0, 1) := dk_42 (dk_at dksX3_fromSpare_0 13 rfl rfl)
theorem dX3_fromSpare_14 : decode cX3_fromSpare 14 = .ok (.getfield 241, 3) := dk_180 0 241 (dk_at dksX3_fromSpare_0 14 rfl rfl)
theorem dX3_fromSpare_17 : decode cX3_fromSpare 17 = .ok (.if_icmp .ge 60, 3) := dk_162 0 60 (dk_at dksX3_fromSpare_0 17 rfl rfl)
theorem dX3_fromSpare_20 : decode cX3_fromSpare 20 = .ok (.aload_n 0, 1) := dk_42 (dk_at dksX3_fromSpare_0 20 rfl rfl)
theorem dX3_fromSpare_21 : decode cX3_fromSpare 21 = .ok (.getfield 17, 3) := dk_180 0 17 (dk_at dksX3_fromSpare_0 21 rfl rfl)
theorem dX3_fromSpare_24 : decode cX3_fromSpare 24 = .ok (.bipush 60, 2) := dk_16 60 (dk_at dksX3_fromSpare_1 0 rfl rfl)
theorem dX3_fromSpare_26 : decode cX3_fromSpare 26 = .ok (.iload_n 1, 1) := dk_27 (dk_at dksX3_fromSpare_1 2 rfl rfl)
theorem dX3_fromSpare_27 : decode cX3_fromSpare 27 = .ok (.imul, 1) := dk_104 (dk_at dksX3_fromSpare_1 3 rfl rfl)
theorem dX3_fromSpare_28 : decode cX3_fromSpare 28 = .ok (.iload_n 3, 1) := dk_29 (dk_at dksX3_fromSpare_1 4 rfl rfl)
theorem dX3_fromSpare_29 : decode cX3_fromSpare 29 = .ok (.iadd, 1) := dk_96 (dk_at dksX3_fromSpare_1 5 rfl rfl)
theorem dX3_fromSpare_30 : decode cX3_fromSpare 30 = .ok (.aload_n 0, 1) := dk_42 (dk_at dksX3_fromSpare_1 6 rfl rfl)
theorem dX3_fromSpare_31 : decode cX3_fromSpare 31 = .ok (.getfield 60, 3) := dk_180 0 60 (dk_at dksX3_fromSpare_1 7 rfl rfl)
theorem dX3_fromSpare_34 : decode cX3_fromSpare 34 = .ok (.iload_n 3, 1) := dk_29 (dk_at dksX3_fromSpare_1 10 rfl rfl)
theorem dX3_fromSpare_35 : decode cX3_fromSpare 35 = .ok (.daload, 1) := dk_49 (dk_at dksX3_fromSpare_1 11 rfl rfl)
theorem dX3_fromSpare_36 : decode cX3_fromSpare 36 = .ok (.dastore, 1) := dk_82 (dk_at dksX3_fromSpare_1 12 rfl rfl)
theorem dX3_fromSpare_37 : decode cX3_fromSpare 37 = .ok (.aload_n 0, 1) := dk_42 (dk_at dksX3_fromSpare_1 13 rfl rfl)
theorem dX3_fromSpare_38 : decode cX3_fromSpare 38 = .ok (.getfield 21, 3) := dk_180 0 21 (dk_at dksX3_fromSpare_1 14 rfl rfl)
theorem dX3_fromSpare_41 : decode cX3_fromSpare 41 = .ok (.bipush 60, 2) := dk_16 60 (dk_at dksX3_fromSpare_1 17 rfl rfl)
theorem dX3_fromSpare_43 : decode cX3_fromSpare 43 = .ok (.iload_n 1, 1) := dk_27 (dk_at dksX3_fromSpare_1 19 rfl rfl)
theorem dX3_fromSpare_44 : decode cX3_fromSpare 44 = .ok (.imul, 1) := dk_104 (dk_at dksX3_fromSpare_1 20 rfl rfl)
theorem dX3_fromSpare_45 : decode cX3_fromSpare 45 = .ok (.iload_n 3, 1) := dk_29 (dk_at dksX3_fromSpare_1 21 rfl rfl)
theorem dX3_fromSpare_46 : decode cX3_fromSpare 46 = .ok (.iadd, 1) := dk_96 (dk_at dksX3_fromSpare_1 22 rfl rfl)
theorem dX3_fromSpare_47 : decode cX3_fromSpare 47 = .ok (.aload_n 0, 1) := dk_42 (dk_at dksX3_fromSpare_1 23 rfl rfl)
theorem dX3_fromSpare_48 : decode cX3_fromSpare 48 = .ok (.getfield 63, 3) := dk_180 0 63 (dk_at dksX3_fromSpare_2 0 rfl rfl)
theorem dX3_fromSpare_51 : decode cX3_fromSpare 51 = .ok (.iload_n 3, 1) := dk_29 (dk_at dksX3_fromSpare_2 3 rfl rfl)
theorem dX3_fromSpare_52 : decode cX3_fromSpare 52 = .ok (.iaload, 1) := dk_46 (dk_at dksX3_fromSpare_2 4 rfl rfl)
theorem dX3_fromSpare_53 : decode cX3_fromSpare 53 = .ok (.iastore, 1) := dk_79 (dk_at dksX3_fromSpare_2 5 rfl rfl)
theorem dX3_fromSpare_54 : decode cX3_fromSpare 54 = .ok (.aload_n 0, 1) := dk_42 (dk_at dksX3_fromSpare_2 6 rfl rfl)
theorem dX3_fromSpare_55 : decode cX3_fromSpare 55 = .ok (.getfield 24, 3) := dk_180 0 24 (dk_at dksX3_fromSpare_2 7 rfl rfl)
theorem dX3_fromSpare_58 : decode cX3_fromSpare 58 = .ok (.bipush 60, 2) := dk_16 60 (dk_at dksX3_fromSpare_2 10 rfl rfl)
theorem dX3_fromSpare_60 : decode cX3_fromSpare 60 = .ok (.iload_n 1, 1) := dk_27 (dk_at dksX3_fromSpare_2 12 rfl rfl)
theorem dX3_fromSpare_61 : decode cX3_fromSpare 61 = .ok (.imul, 1) := dk_104 (dk_at dksX3_fromSpare_2 13 rfl rfl)
theorem dX3_fromSpare_62 : decode cX3_fromSpare 62 = .ok (.iload_n 3, 1) := dk_29 (dk_at dksX3_fromSpare_2 14 rfl rfl)
theorem dX3_fromSpare_63 : decode cX3_fromSpare 63 = .ok (.iadd, 1) := dk_96 (dk_at dksX3_fromSpare_2 15 rfl rfl)
theorem dX3_fromSpare_64 : decode cX3_fromSpare 64 = .ok (.aload_n 0, 1) := dk_42 (dk_at dksX3_fromSpare_2 16 rfl rfl)
theorem dX3_fromSpare_65 : decode cX3_fromSpare 65 = .ok (.getfield 66, 3) := dk_180 0 66 (dk_at dksX3_fromSpare_2 17 rfl rfl)
theorem dX3_fromSpare_68 : decode cX3_fromSpare 68 = .ok (.iload_n 3, 1) := dk_29 (dk_at dksX3_fromSpare_2 20 rfl rfl)
theorem dX3_fromSpare_69 : decode cX3_fromSpare 69 = .ok (.iaload, 1) := dk_46 (dk_at dksX3_fromSpare_2 21 rfl rfl)
theorem dX3_fromSpare_70 : decode cX3_fromSpare 70 = .ok (.iastore, 1) := dk_79 (dk_at dksX3_fromSpare_2 22 rfl rfl)
theorem dX3_fromSpare_71 : decode cX3_fromSpare 71 = .ok (.iinc 3 1, 3) := dk_132 3 1 (dk_at dksX3_fromSpare_3 0 rfl rfl)
theorem dX3_fromSpare_74 : decode cX3_fromSpare 74 = .ok (.goto (-62), 3) := dk_167 255 194 (dk_at dksX3_fromSpare_3 3 rfl rfl)
theorem dX3_fromSpare_77 : decode cX3_fromSpare 77 = .ok (.aload_n 0, 1) := dk_42 (dk_at dksX3_fromSpare_3 6 rfl rfl)
theorem dX3_fromSpare_78 : decode cX3_fromSpare 78 = .ok (.getfield 241, 3) := dk_180 0 241 (dk_at dksX3_fromSpare_3 7 rfl rfl)
theorem dX3_fromSpare_81 : decode cX3_fromSpare 81 = .ok (.ireturn, 1) := dk_172 (dk_at dksX3_fromSpare_3 10 rfl rfl)
abbrev cX3_mix : ByteArray := prog_27_method_39_code
def yX3_mix : MethodName := ⟨RX3, "mix", "(III)I"⟩
def dkwX3_mix_6 : List UInt8 := [182, 0, 246, 132, 4, 1, 167, 255, 210, 42, 27, 42, 180, 0, 13, 28, 51, 182, 0, 249, 172]
abbrev dktX3_mix_6 : List UInt8 := dkwX3_mix_6 ++ []
def dkwX3_mix_5 : List UInt8 := [42, 28, 21, 4, 182, 0, 246, 21, 4, 42, 180, 0, 7, 29, 46, 162, 0, 10, 42, 29, 21, 4]
abbrev dktX3_mix_5 : List UInt8 := dkwX3_mix_5 ++ dktX3_mix_6
def dkwX3_mix_4 : List UInt8 := [181, 0, 241, 3, 54, 4, 21, 4, 16, 60, 162, 0, 45, 21, 4, 42, 180, 0, 7, 28, 46, 162, 0, 10]
abbrev dktX3_mix_4 : List UInt8 := dkwX3_mix_4 ++ dktX3_mix_5
def dkwX3_mix_3 : List UInt8 := [180, 0, 7, 28, 46, 42, 180, 0, 7, 29, 46, 96, 16, 60, 164, 0, 6, 16, 153, 172, 42, 3]
abbrev dktX3_mix_3 : List UInt8 := dkwX3_mix_3 ++ dktX3_mix_4
def dkwX3_mix_2 : List UInt8 := [153, 0, 5, 3, 172, 42, 180, 0, 13, 28, 51, 42, 180, 0, 13, 29, 51, 159, 0, 6, 16, 152, 172, 42]
abbrev dktX3_mix_2 : List UInt8 := dkwX3_mix_2 ++ dktX3_mix_3
def dkwX3_mix_1 : List UInt8 := [153, 0, 11, 42, 28, 182, 0, 103, 167, 0, 8, 42, 29, 182, 0, 103, 181, 0, 94, 42, 180, 0, 94]
abbrev dktX3_mix_1 : List UInt8 := dkwX3_mix_1 ++ dktX3_mix_2
def dkwX3_mix_0 : List UInt8 := [42, 27, 133, 9, 20, 0, 97, 184, 0, 99, 154, 0, 7, 5, 167, 0, 24, 42, 28, 182, 0, 103]
abbrev dktX3_mix_0 : List UInt8 := dkwX3_mix_0 ++ dktX3_mix_1
theorem dksX3_mix_0 : cX3_mix.data.toList.drop 0 = dktX3_mix_0 := by decide +kernel
theorem dksX3_mix_1 : cX3_mix.data.toList.drop 22 = dktX3_mix_1 := dk_seg dksX3_mix_0 22 rfl rfl
theorem dksX3_mix_2 : cX3_mix.data.toList.drop 45 = dktX3_mix_2 := dk_seg dksX3_mix_1 23 rfl rfl
theorem dksX3_mix_3 : cX3_mix.data.toList.drop 69 = dktX3_mix_3 := dk_seg dksX3_mix_2 24 rfl rfl
theorem dksX3_mix_4 : cX3_mix.data.toList.drop 91 = dktX3_mix_4 := dk_seg dksX3_mix_3 22 rfl rfl
theorem dksX3_mix_5 : cX3_mix.data.toList.drop 115 = dktX3_mix_5 := dk_seg dksX3_mix_4 24 rfl rfl
theorem dksX3_mix_6 : cX3_mix.data.toList.drop 137 = dktX3_mix_6 := dk_seg dksX3_mix_5 22 rfl rfl
theorem dX3_mix_0 : decode cX3_mix 0 = .ok (.aload_n 0, 1) := dk_42 (dk_at dksX3_mix_0 0 rfl rfl)
theorem dX3_mix_1 : decode cX3_mix 1 = .ok (.iload_n 1, 1) := dk_27 (dk_at dksX3_mix_0 1 rfl rfl)
theorem dX3_mix_2 : decode cX3_mix 2 = .ok (.i2l, 1) := dk_133 (dk_at dksX3_mix_0 2 rfl rfl)
theorem dX3_mix_3 : decode cX3_mix 3 = .ok (.lconst 0, 1) := dk_9 (dk_at dksX3_mix_0 3 rfl rfl)
theorem dX3_mix_4 : decode cX3_mix 4 = .ok (.ldc2_w 97, 3) := dk_20 0 97 (dk_at dksX3_mix_0 4 rfl rfl)
theorem dX3_mix_7 : decode cX3_mix 7 = .ok (.invokestatic 99, 3) := dk_184 0 99 (dk_at dksX3_mix_0 7 rfl rfl)
theorem dX3_mix_10 : decode cX3_mix 10 = .ok (.ifCond .ne 7, 3) := dk_154 0 7 (dk_at dksX3_mix_0 10 rfl rfl)
theorem dX3_mix_13 : decode cX3_mix 13 = .ok (.iconst 2, 1) := dk_5 (dk_at dksX3_mix_0 13 rfl rfl)
theorem dX3_mix_14 : decode cX3_mix 14 = .ok (.goto 24, 3) := dk_167 0 24 (dk_at dksX3_mix_0 14 rfl rfl)
theorem dX3_mix_17 : decode cX3_mix 17 = .ok (.aload_n 0, 1) := dk_42 (dk_at dksX3_mix_0 17 rfl rfl)
theorem dX3_mix_18 : decode cX3_mix 18 = .ok (.iload_n 2, 1) := dk_28 (dk_at dksX3_mix_0 18 rfl rfl)
theorem dX3_mix_19 : decode cX3_mix 19 = .ok (.invokevirtual 103, 3) := dk_182 0 103 (dk_at dksX3_mix_0 19 rfl rfl)
theorem dX3_mix_22 : decode cX3_mix 22 = .ok (.ifCond .eq 11, 3) := dk_153 0 11 (dk_at dksX3_mix_1 0 rfl rfl)
theorem dX3_mix_25 : decode cX3_mix 25 = .ok (.aload_n 0, 1) := dk_42 (dk_at dksX3_mix_1 3 rfl rfl)
theorem dX3_mix_26 : decode cX3_mix 26 = .ok (.iload_n 2, 1) := dk_28 (dk_at dksX3_mix_1 4 rfl rfl)
theorem dX3_mix_27 : decode cX3_mix 27 = .ok (.invokevirtual 103, 3) := dk_182 0 103 (dk_at dksX3_mix_1 5 rfl rfl)
theorem dX3_mix_30 : decode cX3_mix 30 = .ok (.goto 8, 3) := dk_167 0 8 (dk_at dksX3_mix_1 8 rfl rfl)
theorem dX3_mix_33 : decode cX3_mix 33 = .ok (.aload_n 0, 1) := dk_42 (dk_at dksX3_mix_1 11 rfl rfl)
theorem dX3_mix_34 : decode cX3_mix 34 = .ok (.iload_n 3, 1) := dk_29 (dk_at dksX3_mix_1 12 rfl rfl)
theorem dX3_mix_35 : decode cX3_mix 35 = .ok (.invokevirtual 103, 3) := dk_182 0 103 (dk_at dksX3_mix_1 13 rfl rfl)
theorem dX3_mix_38 : decode cX3_mix 38 = .ok (.putfield 94, 3) := dk_181 0 94 (dk_at dksX3_mix_1 16 rfl rfl)
theorem dX3_mix_41 : decode cX3_mix 41 = .ok (.aload_n 0, 1) := dk_42 (dk_at dksX3_mix_1 19 rfl rfl)
theorem dX3_mix_42 : decode cX3_mix 42 = .ok (.getfield 94, 3) := dk_180 0 94 (dk_at dksX3_mix_1 20 rfl rfl)
theorem dX3_mix_45 : decode cX3_mix 45 = .ok (.ifCond .eq 5, 3) := dk_153 0 5 (dk_at dksX3_mix_2 0 rfl rfl)
theorem dX3_mix_48 : decode cX3_mix 48 = .ok (.iconst 0, 1) := dk_3 (dk_at dksX3_mix_2 3 rfl rfl)
theorem dX3_mix_49 : decode cX3_mix 49 = .ok (.ireturn, 1) := dk_172 (dk_at dksX3_mix_2 4 rfl rfl)
theorem dX3_mix_50 : decode cX3_mix 50 = .ok (.aload_n 0, 1) := dk_42 (dk_at dksX3_mix_2 5 rfl rfl)
theorem dX3_mix_51 : decode cX3_mix 51 = .ok (.getfield 13, 3) := dk_180 0 13 (dk_at dksX3_mix_2 6 rfl rfl)
theorem dX3_mix_54 : decode cX3_mix 54 = .ok (.iload_n 2, 1) := dk_28 (dk_at dksX3_mix_2 9 rfl rfl)
theorem dX3_mix_55 : decode cX3_mix 55 = .ok (.baload, 1) := dk_51 (dk_at dksX3_mix_2 10 rfl rfl)
theorem dX3_mix_56 : decode cX3_mix 56 = .ok (.aload_n 0, 1) := dk_42 (dk_at dksX3_mix_2 11 rfl rfl)
theorem dX3_mix_57 : decode cX3_mix 57 = .ok (.getfield 13, 3) := dk_180 0 13 (dk_at dksX3_mix_2 12 rfl rfl)
theorem dX3_mix_60 : decode cX3_mix 60 = .ok (.iload_n 3, 1) := dk_29 (dk_at dksX3_mix_2 15 rfl rfl)
theorem dX3_mix_61 : decode cX3_mix 61 = .ok (.baload, 1) := dk_51 (dk_at dksX3_mix_2 16 rfl rfl)
theorem dX3_mix_62 : decode cX3_mix 62 = .ok (.if_icmp .eq 6, 3) := dk_159 0 6 (dk_at dksX3_mix_2 17 rfl rfl)
theorem dX3_mix_65 : decode cX3_mix 65 = .ok (.bipush (-104), 2) := dk_16 152 (dk_at dksX3_mix_2 20 rfl rfl)
theorem dX3_mix_67 : decode cX3_mix 67 = .ok (.ireturn, 1) := dk_172 (dk_at dksX3_mix_2 22 rfl rfl)
theorem dX3_mix_68 : decode cX3_mix 68 = .ok (.aload_n 0, 1) := dk_42 (dk_at dksX3_mix_2 23 rfl rfl)
theorem dX3_mix_69 : decode cX3_mix 69 = .ok (.getfield 7, 3) := dk_180 0 7 (dk_at dksX3_mix_3 0 rfl rfl)
theorem dX3_mix_72 : decode cX3_mix 72 = .ok (.iload_n 2, 1) := dk_28 (dk_at dksX3_mix_3 3 rfl rfl)
theorem dX3_mix_73 : decode cX3_mix 73 = .ok (.iaload, 1) := dk_46 (dk_at dksX3_mix_3 4 rfl rfl)
theorem dX3_mix_74 : decode cX3_mix 74 = .ok (.aload_n 0, 1) := dk_42 (dk_at dksX3_mix_3 5 rfl rfl)
theorem dX3_mix_75 : decode cX3_mix 75 = .ok (.getfield 7, 3) := dk_180 0 7 (dk_at dksX3_mix_3 6 rfl rfl)
theorem dX3_mix_78 : decode cX3_mix 78 = .ok (.iload_n 3, 1) := dk_29 (dk_at dksX3_mix_3 9 rfl rfl)
theorem dX3_mix_79 : decode cX3_mix 79 = .ok (.iaload, 1) := dk_46 (dk_at dksX3_mix_3 10 rfl rfl)
theorem dX3_mix_80 : decode cX3_mix 80 = .ok (.iadd, 1) := dk_96 (dk_at dksX3_mix_3 11 rfl rfl)
theorem dX3_mix_81 : decode cX3_mix 81 = .ok (.bipush 60, 2) := dk_16 60 (dk_at dksX3_mix_3 12 rfl rfl)
theorem dX3_mix_83 : decode cX3_mix 83 = .ok (.if_icmp .le 6, 3) := dk_164 0 6 (dk_at dksX3_mix_3 14 rfl rfl)
theorem dX3_mix_86 : decode cX3_mix 86 = .ok (.bipush (-103), 2) := dk_16 153 (dk_at dksX3_mix_3 17 rfl rfl)
theorem dX3_mix_88 : decode cX3_mix 88 = .ok (.ireturn, 1) := dk_172 (dk_at dksX3_mix_3 19 rfl rfl)
theorem dX3_mix_89 : decode cX3_mix 89 = .ok (.aload_n 0, 1) := dk_42 (dk_at dksX3_mix_3 20 rfl rfl)
theorem dX3_mix_90 : decode cX3_mix 90 = .ok (.iconst 0, 1) := dk_3 (dk_at dksX3_mix_3 21 rfl rfl)
theorem dX3_mix_91 : decode cX3_mix 91 = .ok (.putfield 241, 3) := dk_181 0 241 (dk_at dksX3_mix_4 0 rfl rfl)
theorem dX3_mix_94 : decode cX3_mix 94 = .ok (.iconst 0, 1) := dk_3 (dk_at dksX3_mix_4 3 rfl rfl)
theorem dX3_mix_95 : decode cX3_mix 95 = .ok (.istore 4, 2) := dk_54 4 (dk_at dksX3_mix_4 4 rfl rfl)
theorem dX3_mix_97 : decode cX3_mix 97 = .ok (.iload 4, 2) := dk_21 4 (dk_at dksX3_mix_4 6 rfl rfl)
theorem dX3_mix_99 : decode cX3_mix 99 = .ok (.bipush 60, 2) := dk_16 60 (dk_at dksX3_mix_4 8 rfl rfl)
theorem dX3_mix_101 : decode cX3_mix 101 = .ok (.if_icmp .ge 45, 3) := dk_162 0 45 (dk_at dksX3_mix_4 10 rfl rfl)
theorem dX3_mix_104 : decode cX3_mix 104 = .ok (.iload 4, 2) := dk_21 4 (dk_at dksX3_mix_4 13 rfl rfl)
theorem dX3_mix_106 : decode cX3_mix 106 = .ok (.aload_n 0, 1) := dk_42 (dk_at dksX3_mix_4 15 rfl rfl)
theorem dX3_mix_107 : decode cX3_mix 107 = .ok (.getfield 7, 3) := dk_180 0 7 (dk_at dksX3_mix_4 16 rfl rfl)
theorem dX3_mix_110 : decode cX3_mix 110 = .ok (.iload_n 2, 1) := dk_28 (dk_at dksX3_mix_4 19 rfl rfl)
theorem dX3_mix_111 : decode cX3_mix 111 = .ok (.iaload, 1) := dk_46 (dk_at dksX3_mix_4 20 rfl rfl)
theorem dX3_mix_112 : decode cX3_mix 112 = .ok (.if_icmp .ge 10, 3) := dk_162 0 10 (dk_at dksX3_mix_4 21 rfl rfl)
theorem dX3_mix_115 : decode cX3_mix 115 = .ok (.aload_n 0, 1) := dk_42 (dk_at dksX3_mix_5 0 rfl rfl)
theorem dX3_mix_116 : decode cX3_mix 116 = .ok (.iload_n 2, 1) := dk_28 (dk_at dksX3_mix_5 1 rfl rfl)
theorem dX3_mix_117 : decode cX3_mix 117 = .ok (.iload 4, 2) := dk_21 4 (dk_at dksX3_mix_5 2 rfl rfl)
theorem dX3_mix_119 : decode cX3_mix 119 = .ok (.invokevirtual 246, 3) := dk_182 0 246 (dk_at dksX3_mix_5 4 rfl rfl)
theorem dX3_mix_122 : decode cX3_mix 122 = .ok (.iload 4, 2) := dk_21 4 (dk_at dksX3_mix_5 7 rfl rfl)
theorem dX3_mix_124 : decode cX3_mix 124 = .ok (.aload_n 0, 1) := dk_42 (dk_at dksX3_mix_5 9 rfl rfl)
theorem dX3_mix_125 : decode cX3_mix 125 = .ok (.getfield 7, 3) := dk_180 0 7 (dk_at dksX3_mix_5 10 rfl rfl)
theorem dX3_mix_128 : decode cX3_mix 128 = .ok (.iload_n 3, 1) := dk_29 (dk_at dksX3_mix_5 13 rfl rfl)
theorem dX3_mix_129 : decode cX3_mix 129 = .ok (.iaload, 1) := dk_46 (dk_at dksX3_mix_5 14 rfl rfl)
theorem dX3_mix_130 : decode cX3_mix 130 = .ok (.if_icmp .ge 10, 3) := dk_162 0 10 (dk_at dksX3_mix_5 15 rfl rfl)
theorem dX3_mix_133 : decode cX3_mix 133 = .ok (.aload_n 0, 1) := dk_42 (dk_at dksX3_mix_5 18 rfl rfl)
theorem dX3_mix_134 : decode cX3_mix 134 = .ok (.iload_n 3, 1) := dk_29 (dk_at dksX3_mix_5 19 rfl rfl)
theorem dX3_mix_135 : decode cX3_mix 135 = .ok (.iload 4, 2) := dk_21 4 (dk_at dksX3_mix_5 20 rfl rfl)
theorem dX3_mix_137 : decode cX3_mix 137 = .ok (.invokevirtual 246, 3) := dk_182 0 246 (dk_at dksX3_mix_6 0 rfl rfl)
theorem dX3_mix_140 : decode cX3_mix 140 = .ok (.iinc 4 1, 3) := dk_132 4 1 (dk_at dksX3_mix_6 3 rfl rfl)
theorem dX3_mix_143 : decode cX3_mix 143 = .ok (.goto (-46), 3) := dk_167 255 210 (dk_at dksX3_mix_6 6 rfl rfl)
theorem dX3_mix_146 : decode cX3_mix 146 = .ok (.aload_n 0, 1) := dk_42 (dk_at dksX3_mix_6 9 rfl rfl)
theorem dX3_mix_147 : decode cX3_mix 147 = .ok (.iload_n 1, 1) := dk_27 (dk_at dksX3_mix_6 10 rfl rfl)
theorem dX3_mix_148 : decode cX3_mix 148 = .ok (.aload_n 0, 1) := dk_42 (dk_at dksX3_mix_6 11 rfl rfl)
theorem dX3_mix_149 : decode cX3_mix 149 = .ok (.getfield 13, 3) := dk_180 0 13 (dk_at dksX3_mix_6 12 rfl rfl)
theorem dX3_mix_152 : decode cX3_mix 152 = .ok (.iload_n 2, 1) := dk_28 (dk_at dksX3_mix_6 15 rfl rfl)
theorem dX3_mix_153 : decode cX3_mix 153 = .ok (.baload, 1) := dk_51 (dk_at dksX3_mix_6 16 rfl rfl)
theorem dX3_mix_154 : decode cX3_mix 154 = .ok (.invokevirtual 249, 3) := dk_182 0 249 (dk_at dksX3_mix_6 17 rfl rfl)
theorem dX3_mix_157 : decode cX3_mix 157 = .ok (.ireturn, 1) := dk_172 (dk_at dksX3_mix_6 20 rfl rfl)
abbrev cX3_same : ByteArray := prog_27_method_40_code
def yX3_same : MethodName := ⟨RX3, "same", "(II)I"⟩
def dkwX3_same_8 : List UInt8 := [153, 0, 7, 4, 167, 0, 4, 3, 172]
abbrev dktX3_same_8 : List UInt8 := dkwX3_same_8 ++ []
def dkwX3_same_7 : List UInt8 := [16, 60, 28, 104, 21, 4, 96, 46, 160, 0, 7, 4, 167, 0, 4, 3, 62, 132, 4, 1, 167, 255, 144, 29]
abbrev dktX3_same_7 : List UInt8 := dkwX3_same_7 ++ dktX3_same_8
def dkwX3_same_6 : List UInt8 := [21, 4, 96, 46, 160, 0, 34, 42, 180, 0, 24, 16, 60, 27, 104, 21, 4, 96, 46, 42, 180, 0, 24]
abbrev dktX3_same_6 : List UInt8 := dkwX3_same_6 ++ dktX3_same_7
def dkwX3_same_5 : List UInt8 := [148, 154, 0, 61, 42, 180, 0, 21, 16, 60, 27, 104, 21, 4, 96, 46, 42, 180, 0, 21, 16, 60, 28, 104]
abbrev dktX3_same_5 : List UInt8 := dkwX3_same_5 ++ dktX3_same_6
def dkwX3_same_4 : List UInt8 := [27, 104, 21, 4, 96, 49, 184, 0, 113, 42, 180, 0, 17, 16, 60, 28, 104, 21, 4, 96, 49, 184, 0, 113]
abbrev dktX3_same_4 : List UInt8 := dkwX3_same_4 ++ dktX3_same_5
def dkwX3_same_3 : List UInt8 := [3, 54, 4, 21, 4, 42, 180, 0, 7, 27, 46, 162, 0, 107, 29, 153, 0, 103, 42, 180, 0, 17, 16, 60]
abbrev dktX3_same_3 : List UInt8 := dkwX3_same_3 ++ dktX3_same_4
def dkwX3_same_2 : List UInt8 := [160, 0, 22, 42, 180, 0, 7, 27, 46, 42, 180, 0, 7, 28, 46, 160, 0, 7, 4, 167, 0, 4, 3, 62]
abbrev dktX3_same_2 : List UInt8 := dkwX3_same_2 ++ dktX3_same_3
def dkwX3_same_1 : List UInt8 := [181, 0, 94, 42, 180, 0, 94, 153, 0, 5, 3, 172, 42, 180, 0, 13, 27, 51, 42, 180, 0, 13, 28, 51]
abbrev dktX3_same_1 : List UInt8 := dkwX3_same_1 ++ dktX3_same_2
def dkwX3_same_0 : List UInt8 := [42, 42, 27, 182, 0, 103, 153, 0, 11, 42, 27, 182, 0, 103, 167, 0, 8, 42, 28, 182, 0, 103]
abbrev dktX3_same_0 : List UInt8 := dkwX3_same_0 ++ dktX3_same_1
theorem dksX3_same_0 : cX3_same.data.toList.drop 0 = dktX3_same_0 := by decide +kernel
theorem dksX3_same_1 : cX3_same.data.toList.drop 22 = dktX3_same_1 := dk_seg dksX3_same_0 22 rfl rfl
theorem dksX3_same_2 : cX3_same.data.toList.drop 46 = dktX3_same_2 := dk_seg dksX3_same_1 24 rfl rfl
theorem dksX3_same_3 : cX3_same.data.toList.drop 70 = dktX3_same_3 := dk_seg dksX3_same_2 24 rfl rfl
theorem dksX3_same_4 : cX3_same.data.toList.drop 94 = dktX3_same_4 := dk_seg dksX3_same_3 24 rfl rfl
theorem dksX3_same_5 : cX3_same.data.toList.drop 118 = dktX3_same_5 := dk_seg dksX3_same_4 24 rfl rfl
theorem dksX3_same_6 : cX3_same.data.toList.drop 142 = dktX3_same_6 := dk_seg dksX3_same_5 24 rfl rfl
theorem dksX3_same_7 : cX3_same.data.toList.drop 165 = dktX3_same_7 := dk_seg dksX3_same_6 23 rfl rfl
theorem dksX3_same_8 : cX3_same.data.toList.drop 189 = dktX3_same_8 := dk_seg dksX3_same_7 24 rfl rfl
theorem dX3_same_0 : decode cX3_same 0 = .ok (.aload_n 0, 1) := dk_42 (dk_at dksX3_same_0 0 rfl rfl)
theorem dX3_same_1 : decode cX3_same 1 = .ok (.aload_n 0, 1) := dk_42 (dk_at dksX3_same_0 1 rfl rfl)
theorem dX3_same_2 : decode cX3_same 2 = .ok (.iload_n 1, 1) := dk_27 (dk_at dksX3_same_0 2 rfl rfl)
theorem dX3_same_3 : decode cX3_same 3 = .ok (.invokevirtual 103, 3) := dk_182 0 103 (dk_at dksX3_same_0 3 rfl rfl)
theorem dX3_same_6 : decode cX3_same 6 = .ok (.ifCond .eq 11, 3) := dk_153 0 11 (dk_at dksX3_same_0 6 rfl rfl)
theorem dX3_same_9 : decode cX3_same 9 = .ok (.aload_n 0, 1) := dk_42 (dk_at dksX3_same_0 9 rfl rfl)
theorem dX3_same_10 : decode cX3_same 10 = .ok (.iload_n 1, 1) := dk_27 (dk_at dksX3_same_0 10 rfl rfl)
theorem dX3_same_11 : decode cX3_same 11 = .ok (.invokevirtual 103, 3) := dk_182 0 103 (dk_at dksX3_same_0 11 rfl rfl)
theorem dX3_same_14 : decode cX3_same 14 = .ok (.goto 8, 3) := dk_167 0 8 (dk_at dksX3_same_0 14 rfl rfl)
theorem dX3_same_17 : decode cX3_same 17 = .ok (.aload_n 0, 1) := dk_42 (dk_at dksX3_same_0 17 rfl rfl)
theorem dX3_same_18 : decode cX3_same 18 = .ok (.iload_n 2, 1) := dk_28 (dk_at dksX3_same_0 18 rfl rfl)
theorem dX3_same_19 : decode cX3_same 19 = .ok (.invokevirtual 103, 3) := dk_182 0 103 (dk_at dksX3_same_0 19 rfl rfl)
theorem dX3_same_22 : decode cX3_same 22 = .ok (.putfield 94, 3) := dk_181 0 94 (dk_at dksX3_same_1 0 rfl rfl)
theorem dX3_same_25 : decode cX3_same 25 = .ok (.aload_n 0, 1) := dk_42 (dk_at dksX3_same_1 3 rfl rfl)
theorem dX3_same_26 : decode cX3_same 26 = .ok (.getfield 94, 3) := dk_180 0 94 (dk_at dksX3_same_1 4 rfl rfl)
theorem dX3_same_29 : decode cX3_same 29 = .ok (.ifCond .eq 5, 3) := dk_153 0 5 (dk_at dksX3_same_1 7 rfl rfl)
theorem dX3_same_32 : decode cX3_same 32 = .ok (.iconst 0, 1) := dk_3 (dk_at dksX3_same_1 10 rfl rfl)
theorem dX3_same_33 : decode cX3_same 33 = .ok (.ireturn, 1) := dk_172 (dk_at dksX3_same_1 11 rfl rfl)
theorem dX3_same_34 : decode cX3_same 34 = .ok (.aload_n 0, 1) := dk_42 (dk_at dksX3_same_1 12 rfl rfl)
theorem dX3_same_35 : decode cX3_same 35 = .ok (.getfield 13, 3) := dk_180 0 13 (dk_at dksX3_same_1 13 rfl rfl)
theorem dX3_same_38 : decode cX3_same 38 = .ok (.iload_n 1, 1) := dk_27 (dk_at dksX3_same_1 16 rfl rfl)
theorem dX3_same_39 : decode cX3_same 39 = .ok (.baload, 1) := dk_51 (dk_at dksX3_same_1 17 rfl rfl)
theorem dX3_same_40 : decode cX3_same 40 = .ok (.aload_n 0, 1) := dk_42 (dk_at dksX3_same_1 18 rfl rfl)
theorem dX3_same_41 : decode cX3_same 41 = .ok (.getfield 13, 3) := dk_180 0 13 (dk_at dksX3_same_1 19 rfl rfl)
theorem dX3_same_44 : decode cX3_same 44 = .ok (.iload_n 2, 1) := dk_28 (dk_at dksX3_same_1 22 rfl rfl)
theorem dX3_same_45 : decode cX3_same 45 = .ok (.baload, 1) := dk_51 (dk_at dksX3_same_1 23 rfl rfl)
theorem dX3_same_46 : decode cX3_same 46 = .ok (.if_icmp .ne 22, 3) := dk_160 0 22 (dk_at dksX3_same_2 0 rfl rfl)
theorem dX3_same_49 : decode cX3_same 49 = .ok (.aload_n 0, 1) := dk_42 (dk_at dksX3_same_2 3 rfl rfl)
theorem dX3_same_50 : decode cX3_same 50 = .ok (.getfield 7, 3) := dk_180 0 7 (dk_at dksX3_same_2 4 rfl rfl)
theorem dX3_same_53 : decode cX3_same 53 = .ok (.iload_n 1, 1) := dk_27 (dk_at dksX3_same_2 7 rfl rfl)
theorem dX3_same_54 : decode cX3_same 54 = .ok (.iaload, 1) := dk_46 (dk_at dksX3_same_2 8 rfl rfl)
theorem dX3_same_55 : decode cX3_same 55 = .ok (.aload_n 0, 1) := dk_42 (dk_at dksX3_same_2 9 rfl rfl)
theorem dX3_same_56 : decode cX3_same 56 = .ok (.getfield 7, 3) := dk_180 0 7 (dk_at dksX3_same_2 10 rfl rfl)
theorem dX3_same_59 : decode cX3_same 59 = .ok (.iload_n 2, 1) := dk_28 (dk_at dksX3_same_2 13 rfl rfl)
theorem dX3_same_60 : decode cX3_same 60 = .ok (.iaload, 1) := dk_46 (dk_at dksX3_same_2 14 rfl rfl)
theorem dX3_same_61 : decode cX3_same 61 = .ok (.if_icmp .ne 7, 3) := dk_160 0 7 (dk_at dksX3_same_2 15 rfl rfl)
theorem dX3_same_64 : decode cX3_same 64 = .ok (.iconst 1, 1) := dk_4 (dk_at dksX3_same_2 18 rfl rfl)
theorem dX3_same_65 : decode cX3_same 65 = .ok (.goto 4, 3) := dk_167 0 4 (dk_at dksX3_same_2 19 rfl rfl)
theorem dX3_same_68 : decode cX3_same 68 = .ok (.iconst 0, 1) := dk_3 (dk_at dksX3_same_2 22 rfl rfl)
theorem dX3_same_69 : decode cX3_same 69 = .ok (.istore_n 3, 1) := dk_62 (dk_at dksX3_same_2 23 rfl rfl)
theorem dX3_same_70 : decode cX3_same 70 = .ok (.iconst 0, 1) := dk_3 (dk_at dksX3_same_3 0 rfl rfl)
theorem dX3_same_71 : decode cX3_same 71 = .ok (.istore 4, 2) := dk_54 4 (dk_at dksX3_same_3 1 rfl rfl)
theorem dX3_same_73 : decode cX3_same 73 = .ok (.iload 4, 2) := dk_21 4 (dk_at dksX3_same_3 3 rfl rfl)
theorem dX3_same_75 : decode cX3_same 75 = .ok (.aload_n 0, 1) := dk_42 (dk_at dksX3_same_3 5 rfl rfl)
theorem dX3_same_76 : decode cX3_same 76 = .ok (.getfield 7, 3) := dk_180 0 7 (dk_at dksX3_same_3 6 rfl rfl)
theorem dX3_same_79 : decode cX3_same 79 = .ok (.iload_n 1, 1) := dk_27 (dk_at dksX3_same_3 9 rfl rfl)
theorem dX3_same_80 : decode cX3_same 80 = .ok (.iaload, 1) := dk_46 (dk_at dksX3_same_3 10 rfl rfl)
theorem dX3_same_81 : decode cX3_same 81 = .ok (.if_icmp .ge 107, 3) := dk_162 0 107 (dk_at dksX3_same_3 11 rfl rfl)
theorem dX3_same_84 : decode cX3_same 84 = .ok (.iload_n 3, 1) := dk_29 (dk_at dksX3_same_3 14 rfl rfl)
theorem dX3_same_85 : decode cX3_same 85 = .ok (.ifCond .eq 103, 3) := dk_153 0 103 (dk_at dksX3_same_3 15 rfl rfl)
theorem dX3_same_88 : decode cX3_same 88 = .ok (.aload_n 0, 1) := dk_42 (dk_at dksX3_same_3 18 rfl rfl)
theorem dX3_same_89 : decode cX3_same 89 = .ok (.getfield 17, 3) := dk_180 0 17 (dk_at dksX3_same_3 19 rfl rfl)
theorem dX3_same_92 : decode cX3_same 92 = .ok (.bipush 60, 2) := dk_16 60 (dk_at dksX3_same_3 22 rfl rfl)
theorem dX3_same_94 : decode cX3_same 94 = .ok (.iload_n 1, 1) := dk_27 (dk_at dksX3_same_4 0 rfl rfl)
theorem dX3_same_95 : decode cX3_same 95 = .ok (.imul, 1) := dk_104 (dk_at dksX3_same_4 1 rfl rfl)
theorem dX3_same_96 : decode cX3_same 96 = .ok (.iload 4, 2) := dk_21 4 (dk_at dksX3_same_4 2 rfl rfl)
theorem dX3_same_98 : decode cX3_same 98 = .ok (.iadd, 1) := dk_96 (dk_at dksX3_same_4 4 rfl rfl)
theorem dX3_same_99 : decode cX3_same 99 = .ok (.daload, 1) := dk_49 (dk_at dksX3_same_4 5 rfl rfl)
theorem dX3_same_100 : decode cX3_same 100 = .ok (.invokestatic 113, 3) := dk_184 0 113 (dk_at dksX3_same_4 6 rfl rfl)
theorem dX3_same_103 : decode cX3_same 103 = .ok (.aload_n 0, 1) := dk_42 (dk_at dksX3_same_4 9 rfl rfl)
theorem dX3_same_104 : decode cX3_same 104 = .ok (.getfield 17, 3) := dk_180 0 17 (dk_at dksX3_same_4 10 rfl rfl)
theorem dX3_same_107 : decode cX3_same 107 = .ok (.bipush 60, 2) := dk_16 60 (dk_at dksX3_same_4 13 rfl rfl)
theorem dX3_same_109 : decode cX3_same 109 = .ok (.iload_n 2, 1) := dk_28 (dk_at dksX3_same_4 15 rfl rfl)
theorem dX3_same_110 : decode cX3_same 110 = .ok (.imul, 1) := dk_104 (dk_at dksX3_same_4 16 rfl rfl)
theorem dX3_same_111 : decode cX3_same 111 = .ok (.iload 4, 2) := dk_21 4 (dk_at dksX3_same_4 17 rfl rfl)
theorem dX3_same_113 : decode cX3_same 113 = .ok (.iadd, 1) := dk_96 (dk_at dksX3_same_4 19 rfl rfl)
theorem dX3_same_114 : decode cX3_same 114 = .ok (.daload, 1) := dk_49 (dk_at dksX3_same_4 20 rfl rfl)
theorem dX3_same_115 : decode cX3_same 115 = .ok (.invokestatic 113, 3) := dk_184 0 113 (dk_at dksX3_same_4 21 rfl rfl)
theorem dX3_same_118 : decode cX3_same 118 = .ok (.lcmp, 1) := dk_148 (dk_at dksX3_same_5 0 rfl rfl)
theorem dX3_same_119 : decode cX3_same 119 = .ok (.ifCond .ne 61, 3) := dk_154 0 61 (dk_at dksX3_same_5 1 rfl rfl)
theorem dX3_same_122 : decode cX3_same 122 = .ok (.aload_n 0, 1) := dk_42 (dk_at dksX3_same_5 4 rfl rfl)
theorem dX3_same_123 : decode cX3_same 123 = .ok (.getfield 21, 3) := dk_180 0 21 (dk_at dksX3_same_5 5 rfl rfl)
theorem dX3_same_126 : decode cX3_same 126 = .ok (.bipush 60, 2) := dk_16 60 (dk_at dksX3_same_5 8 rfl rfl)
theorem dX3_same_128 : decode cX3_same 128 = .ok (.iload_n 1, 1) := dk_27 (dk_at dksX3_same_5 10 rfl rfl)
theorem dX3_same_129 : decode cX3_same 129 = .ok (.imul, 1) := dk_104 (dk_at dksX3_same_5 11 rfl rfl)
theorem dX3_same_130 : decode cX3_same 130 = .ok (.iload 4, 2) := dk_21 4 (dk_at dksX3_same_5 12 rfl rfl)
theorem dX3_same_132 : decode cX3_same 132 = .ok (.iadd, 1) := dk_96 (dk_at dksX3_same_5 14 rfl rfl)
theorem dX3_same_133 : decode cX3_same 133 = .ok (.iaload, 1) := dk_46 (dk_at dksX3_same_5 15 rfl rfl)
theorem dX3_same_134 : decode cX3_same 134 = .ok (.aload_n 0, 1) := dk_42 (dk_at dksX3_same_5 16 rfl rfl)
theorem dX3_same_135 : decode cX3_same 135 = .ok (.getfield 21, 3) := dk_180 0 21 (dk_at dksX3_same_5 17 rfl rfl)
theorem dX3_same_138 : decode cX3_same 138 = .ok (.bipush 60, 2) := dk_16 60 (dk_at dksX3_same_5 20 rfl rfl)
theorem dX3_same_140 : decode cX3_same 140 = .ok (.iload_n 2, 1) := dk_28 (dk_at dksX3_same_5 22 rfl rfl)
theorem dX3_same_141 : decode cX3_same 141 = .ok (.imul, 1) := dk_104 (dk_at dksX3_same_5 23 rfl rfl)
theorem dX3_same_142 : decode cX3_same 142 = .ok (.iload 4, 2) := dk_21 4 (dk_at dksX3_same_6 0 rfl rfl)
theorem dX3_same_144 : decode cX3_same 144 = .ok (.iadd, 1) := dk_96 (dk_at dksX3_same_6 2 rfl rfl)
theorem dX3_same_145 : decode cX3_same 145 = .ok (.iaload, 1) := dk_46 (dk_at dksX3_same_6 3 rfl rfl)
theorem dX3_same_146 : decode cX3_same 146 = .ok (.if_icmp .ne 34, 3) := dk_160 0 34 (dk_at dksX3_same_6 4 rfl rfl)
theorem dX3_same_149 : decode cX3_same 149 = .ok (.aload_n 0, 1) := dk_42 (dk_at dksX3_same_6 7 rfl rfl)
theorem dX3_same_150 : decode cX3_same 150 = .ok (.getfield 24, 3) := dk_180 0 24 (dk_at dksX3_same_6 8 rfl rfl)
theorem dX3_same_153 : decode cX3_same 153 = .ok (.bipush 60, 2) := dk_16 60 (dk_at dksX3_same_6 11 rfl rfl)
theorem dX3_same_155 : decode cX3_same 155 = .ok (.iload_n 1, 1) := dk_27 (dk_at dksX3_same_6 13 rfl rfl)
theorem dX3_same_156 : decode cX3_same 156 = .ok (.imul, 1) := dk_104 (dk_at dksX3_same_6 14 rfl rfl)
theorem dX3_same_157 : decode cX3_same 157 = .ok (.iload 4, 2) := dk_21 4 (dk_at dksX3_same_6 15 rfl rfl)
theorem dX3_same_159 : decode cX3_same 159 = .ok (.iadd, 1) := dk_96 (dk_at dksX3_same_6 17 rfl rfl)
theorem dX3_same_160 : decode cX3_same 160 = .ok (.iaload, 1) := dk_46 (dk_at dksX3_same_6 18 rfl rfl)
theorem dX3_same_161 : decode cX3_same 161 = .ok (.aload_n 0, 1) := dk_42 (dk_at dksX3_same_6 19 rfl rfl)
theorem dX3_same_162 : decode cX3_same 162 = .ok (.getfield 24, 3) := dk_180 0 24 (dk_at dksX3_same_6 20 rfl rfl)
theorem dX3_same_165 : decode cX3_same 165 = .ok (.bipush 60, 2) := dk_16 60 (dk_at dksX3_same_7 0 rfl rfl)
theorem dX3_same_167 : decode cX3_same 167 = .ok (.iload_n 2, 1) := dk_28 (dk_at dksX3_same_7 2 rfl rfl)
theorem dX3_same_168 : decode cX3_same 168 = .ok (.imul, 1) := dk_104 (dk_at dksX3_same_7 3 rfl rfl)
theorem dX3_same_169 : decode cX3_same 169 = .ok (.iload 4, 2) := dk_21 4 (dk_at dksX3_same_7 4 rfl rfl)
theorem dX3_same_171 : decode cX3_same 171 = .ok (.iadd, 1) := dk_96 (dk_at dksX3_same_7 6 rfl rfl)
theorem dX3_same_172 : decode cX3_same 172 = .ok (.iaload, 1) := dk_46 (dk_at dksX3_same_7 7 rfl rfl)
theorem dX3_same_173 : decode cX3_same 173 = .ok (.if_icmp .ne 7, 3) := dk_160 0 7 (dk_at dksX3_same_7 8 rfl rfl)
theorem dX3_same_176 : decode cX3_same 176 = .ok (.iconst 1, 1) := dk_4 (dk_at dksX3_same_7 11 rfl rfl)
theorem dX3_same_177 : decode cX3_same 177 = .ok (.goto 4, 3) := dk_167 0 4 (dk_at dksX3_same_7 12 rfl rfl)
theorem dX3_same_180 : decode cX3_same 180 = .ok (.iconst 0, 1) := dk_3 (dk_at dksX3_same_7 15 rfl rfl)
theorem dX3_same_181 : decode cX3_same 181 = .ok (.istore_n 3, 1) := dk_62 (dk_at dksX3_same_7 16 rfl rfl)
theorem dX3_same_182 : decode cX3_same 182 = .ok (.iinc 4 1, 3) := dk_132 4 1 (dk_at dksX3_same_7 17 rfl rfl)
theorem dX3_same_185 : decode cX3_same 185 = .ok (.goto (-112), 3) := dk_167 255 144 (dk_at dksX3_same_7 20 rfl rfl)
theorem dX3_same_188 : decode cX3_same 188 = .ok (.iload_n 3, 1) := dk_29 (dk_at dksX3_same_7 23 rfl rfl)
theorem dX3_same_189 : decode cX3_same 189 = .ok (.ifCond .eq 7, 3) := dk_153 0 7 (dk_at dksX3_same_8 0 rfl rfl)
theorem dX3_same_192 : decode cX3_same 192 = .ok (.iconst 1, 1) := dk_4 (dk_at dksX3_same_8 3 rfl rfl)
theorem dX3_same_193 : decode cX3_same 193 = .ok (.goto 4, 3) := dk_167 0 4 (dk_at dksX3_same_8 4 rfl rfl)
theorem dX3_same_196 : decode cX3_same 196 = .ok (.iconst 0, 1) := dk_3 (dk_at dksX3_same_8 7 rfl rfl)
theorem dX3_same_197 : decode cX3_same 197 = .ok (.ireturn, 1) := dk_172 (dk_at dksX3_same_8 8 rfl rfl)
abbrev cX3_worked : ByteArray := prog_27_method_47_code
def yX3_worked : MethodName := ⟨RX3, "worked", "(IIII)J"⟩
def dkwX3_worked_6 : List UInt8 := [182, 1, 23, 184, 0, 216, 173]
abbrev dktX3_worked_6 : List UInt8 := dkwX3_worked_6 ++ []
def dkwX3_worked_5 : List UInt8 := [154, 0, 10, 42, 6, 182, 0, 193, 133, 173, 42, 180, 0, 13, 27, 51, 42, 24, 5, 24, 7, 21, 4]
abbrev dktX3_worked_5 : List UInt8 := dkwX3_worked_5 ++ dktX3_worked_6
def dkwX3_worked_4 : List UInt8 := [27, 104, 29, 96, 49, 167, 0, 4, 14, 57, 7, 21, 4, 16, 8, 160, 0, 17, 24, 7, 14, 151]
abbrev dktX3_worked_4 : List UInt8 := dkwX3_worked_4 ++ dktX3_worked_5
def dkwX3_worked_3 : List UInt8 := [180, 0, 17, 16, 60, 27, 104, 28, 96, 49, 57, 5, 21, 4, 7, 164, 0, 17, 42, 180, 0, 17, 16, 60]
abbrev dktX3_worked_3 : List UInt8 := dkwX3_worked_3 ++ dktX3_worked_4
def dkwX3_worked_2 : List UInt8 := [29, 182, 0, 200, 167, 0, 7, 42, 180, 0, 94, 181, 0, 94, 42, 180, 0, 94, 153, 0, 5, 9, 173, 42]
abbrev dktX3_worked_2 : List UInt8 := dkwX3_worked_2 ++ dktX3_worked_3
def dkwX3_worked_1 : List UInt8 := [27, 28, 182, 0, 200, 181, 0, 94, 42, 42, 180, 0, 94, 154, 0, 18, 21, 4, 7, 164, 0, 12, 42, 27]
abbrev dktX3_worked_1 : List UInt8 := dkwX3_worked_1 ++ dktX3_worked_2
def dkwX3_worked_0 : List UInt8 := [42, 3, 181, 0, 94, 21, 4, 133, 9, 20, 1, 19, 184, 0, 99, 154, 0, 7, 20, 1, 21, 173, 42, 42]
abbrev dktX3_worked_0 : List UInt8 := dkwX3_worked_0 ++ dktX3_worked_1
theorem dksX3_worked_0 : cX3_worked.data.toList.drop 0 = dktX3_worked_0 := by decide +kernel
theorem dksX3_worked_1 : cX3_worked.data.toList.drop 24 = dktX3_worked_1 := dk_seg dksX3_worked_0 24 rfl rfl
theorem dksX3_worked_2 : cX3_worked.data.toList.drop 48 = dktX3_worked_2 := dk_seg dksX3_worked_1 24 rfl rfl
theorem dksX3_worked_3 : cX3_worked.data.toList.drop 72 = dktX3_worked_3 := dk_seg dksX3_worked_2 24 rfl rfl
theorem dksX3_worked_4 : cX3_worked.data.toList.drop 96 = dktX3_worked_4 := dk_seg dksX3_worked_3 24 rfl rfl
theorem dksX3_worked_5 : cX3_worked.data.toList.drop 118 = dktX3_worked_5 := dk_seg dksX3_worked_4 22 rfl rfl
theorem dksX3_worked_6 : cX3_worked.data.toList.drop 141 = dktX3_worked_6 := dk_seg dksX3_worked_5 23 rfl rfl
theorem dX3_worked_0 : decode cX3_worked 0 = .ok (.aload_n 0, 1) := dk_42 (dk_at dksX3_worked_0 0 rfl rfl)
theorem dX3_worked_1 : decode cX3_worked 1 = .ok (.iconst 0, 1) := dk_3 (dk_at dksX3_worked_0 1 rfl rfl)
theorem dX3_worked_2 : decode cX3_worked 2 = .ok (.putfield 94, 3) := dk_181 0 94 (dk_at dksX3_worked_0 2 rfl rfl)
theorem dX3_worked_5 : decode cX3_worked 5 = .ok (.iload 4, 2) := dk_21 4 (dk_at dksX3_worked_0 5 rfl rfl)
theorem dX3_worked_7 : decode cX3_worked 7 = .ok (.i2l, 1) := dk_133 (dk_at dksX3_worked_0 7 rfl rfl)
theorem dX3_worked_8 : decode cX3_worked 8 = .ok (.lconst 0, 1) := dk_9 (dk_at dksX3_worked_0 8 rfl rfl)
theorem dX3_worked_9 : decode cX3_worked 9 = .ok (.ldc2_w 275, 3) := dk_20 1 19 (dk_at dksX3_worked_0 9 rfl rfl)
theorem dX3_worked_12 : decode cX3_worked 12 = .ok (.invokestatic 99, 3) := dk_184 0 99 (dk_at dksX3_worked_0 12 rfl rfl)
theorem dX3_worked_15 : decode cX3_worked 15 = .ok (.ifCond .ne 7, 3) := dk_154 0 7 (dk_at dksX3_worked_0 15 rfl rfl)
theorem dX3_worked_18 : decode cX3_worked 18 = .ok (.ldc2_w 277, 3) := dk_20 1 21 (dk_at dksX3_worked_0 18 rfl rfl)
theorem dX3_worked_21 : decode cX3_worked 21 = .ok (.lreturn, 1) := dk_173 (dk_at dksX3_worked_0 21 rfl rfl)
theorem dX3_worked_22 : decode cX3_worked 22 = .ok (.aload_n 0, 1) := dk_42 (dk_at dksX3_worked_0 22 rfl rfl)
theorem dX3_worked_23 : decode cX3_worked 23 = .ok (.aload_n 0, 1) := dk_42 (dk_at dksX3_worked_0 23 rfl rfl)
theorem dX3_worked_24 : decode cX3_worked 24 = .ok (.iload_n 1, 1) := dk_27 (dk_at dksX3_worked_1 0 rfl rfl)
theorem dX3_worked_25 : decode cX3_worked 25 = .ok (.iload_n 2, 1) := dk_28 (dk_at dksX3_worked_1 1 rfl rfl)
theorem dX3_worked_26 : decode cX3_worked 26 = .ok (.invokevirtual 200, 3) := dk_182 0 200 (dk_at dksX3_worked_1 2 rfl rfl)
theorem dX3_worked_29 : decode cX3_worked 29 = .ok (.putfield 94, 3) := dk_181 0 94 (dk_at dksX3_worked_1 5 rfl rfl)
theorem dX3_worked_32 : decode cX3_worked 32 = .ok (.aload_n 0, 1) := dk_42 (dk_at dksX3_worked_1 8 rfl rfl)
theorem dX3_worked_33 : decode cX3_worked 33 = .ok (.aload_n 0, 1) := dk_42 (dk_at dksX3_worked_1 9 rfl rfl)
theorem dX3_worked_34 : decode cX3_worked 34 = .ok (.getfield 94, 3) := dk_180 0 94 (dk_at dksX3_worked_1 10 rfl rfl)
theorem dX3_worked_37 : decode cX3_worked 37 = .ok (.ifCond .ne 18, 3) := dk_154 0 18 (dk_at dksX3_worked_1 13 rfl rfl)
theorem dX3_worked_40 : decode cX3_worked 40 = .ok (.iload 4, 2) := dk_21 4 (dk_at dksX3_worked_1 16 rfl rfl)
theorem dX3_worked_42 : decode cX3_worked 42 = .ok (.iconst 4, 1) := dk_7 (dk_at dksX3_worked_1 18 rfl rfl)
theorem dX3_worked_43 : decode cX3_worked 43 = .ok (.if_icmp .le 12, 3) := dk_164 0 12 (dk_at dksX3_worked_1 19 rfl rfl)
theorem dX3_worked_46 : decode cX3_worked 46 = .ok (.aload_n 0, 1) := dk_42 (dk_at dksX3_worked_1 22 rfl rfl)
theorem dX3_worked_47 : decode cX3_worked 47 = .ok (.iload_n 1, 1) := dk_27 (dk_at dksX3_worked_1 23 rfl rfl)
theorem dX3_worked_48 : decode cX3_worked 48 = .ok (.iload_n 3, 1) := dk_29 (dk_at dksX3_worked_2 0 rfl rfl)
theorem dX3_worked_49 : decode cX3_worked 49 = .ok (.invokevirtual 200, 3) := dk_182 0 200 (dk_at dksX3_worked_2 1 rfl rfl)
theorem dX3_worked_52 : decode cX3_worked 52 = .ok (.goto 7, 3) := dk_167 0 7 (dk_at dksX3_worked_2 4 rfl rfl)
theorem dX3_worked_55 : decode cX3_worked 55 = .ok (.aload_n 0, 1) := dk_42 (dk_at dksX3_worked_2 7 rfl rfl)
theorem dX3_worked_56 : decode cX3_worked 56 = .ok (.getfield 94, 3) := dk_180 0 94 (dk_at dksX3_worked_2 8 rfl rfl)
theorem dX3_worked_59 : decode cX3_worked 59 = .ok (.putfield 94, 3) := dk_181 0 94 (dk_at dksX3_worked_2 11 rfl rfl)
theorem dX3_worked_62 : decode cX3_worked 62 = .ok (.aload_n 0, 1) := dk_42 (dk_at dksX3_worked_2 14 rfl rfl)
theorem dX3_worked_63 : decode cX3_worked 63 = .ok (.getfield 94, 3) := dk_180 0 94 (dk_at dksX3_worked_2 15 rfl rfl)
theorem dX3_worked_66 : decode cX3_worked 66 = .ok (.ifCond .eq 5, 3) := dk_153 0 5 (dk_at dksX3_worked_2 18 rfl rfl)
theorem dX3_worked_69 : decode cX3_worked 69 = .ok (.lconst 0, 1) := dk_9 (dk_at dksX3_worked_2 21 rfl rfl)
theorem dX3_worked_70 : decode cX3_worked 70 = .ok (.lreturn, 1) := dk_173 (dk_at dksX3_worked_2 22 rfl rfl)
theorem dX3_worked_71 : decode cX3_worked 71 = .ok (.aload_n 0, 1) := dk_42 (dk_at dksX3_worked_2 23 rfl rfl)
theorem dX3_worked_72 : decode cX3_worked 72 = .ok (.getfield 17, 3) := dk_180 0 17 (dk_at dksX3_worked_3 0 rfl rfl)
theorem dX3_worked_75 : decode cX3_worked 75 = .ok (.bipush 60, 2) := dk_16 60 (dk_at dksX3_worked_3 3 rfl rfl)
theorem dX3_worked_77 : decode cX3_worked 77 = .ok (.iload_n 1, 1) := dk_27 (dk_at dksX3_worked_3 5 rfl rfl)
theorem dX3_worked_78 : decode cX3_worked 78 = .ok (.imul, 1) := dk_104 (dk_at dksX3_worked_3 6 rfl rfl)
theorem dX3_worked_79 : decode cX3_worked 79 = .ok (.iload_n 2, 1) := dk_28 (dk_at dksX3_worked_3 7 rfl rfl)
theorem dX3_worked_80 : decode cX3_worked 80 = .ok (.iadd, 1) := dk_96 (dk_at dksX3_worked_3 8 rfl rfl)
theorem dX3_worked_81 : decode cX3_worked 81 = .ok (.daload, 1) := dk_49 (dk_at dksX3_worked_3 9 rfl rfl)
theorem dX3_worked_82 : decode cX3_worked 82 = .ok (.dstore 5, 2) := dk_57 5 (dk_at dksX3_worked_3 10 rfl rfl)
theorem dX3_worked_84 : decode cX3_worked 84 = .ok (.iload 4, 2) := dk_21 4 (dk_at dksX3_worked_3 12 rfl rfl)
theorem dX3_worked_86 : decode cX3_worked 86 = .ok (.iconst 4, 1) := dk_7 (dk_at dksX3_worked_3 14 rfl rfl)
theorem dX3_worked_87 : decode cX3_worked 87 = .ok (.if_icmp .le 17, 3) := dk_164 0 17 (dk_at dksX3_worked_3 15 rfl rfl)
theorem dX3_worked_90 : decode cX3_worked 90 = .ok (.aload_n 0, 1) := dk_42 (dk_at dksX3_worked_3 18 rfl rfl)
theorem dX3_worked_91 : decode cX3_worked 91 = .ok (.getfield 17, 3) := dk_180 0 17 (dk_at dksX3_worked_3 19 rfl rfl)
theorem dX3_worked_94 : decode cX3_worked 94 = .ok (.bipush 60, 2) := dk_16 60 (dk_at dksX3_worked_3 22 rfl rfl)
theorem dX3_worked_96 : decode cX3_worked 96 = .ok (.iload_n 1, 1) := dk_27 (dk_at dksX3_worked_4 0 rfl rfl)
theorem dX3_worked_97 : decode cX3_worked 97 = .ok (.imul, 1) := dk_104 (dk_at dksX3_worked_4 1 rfl rfl)
theorem dX3_worked_98 : decode cX3_worked 98 = .ok (.iload_n 3, 1) := dk_29 (dk_at dksX3_worked_4 2 rfl rfl)
theorem dX3_worked_99 : decode cX3_worked 99 = .ok (.iadd, 1) := dk_96 (dk_at dksX3_worked_4 3 rfl rfl)
theorem dX3_worked_100 : decode cX3_worked 100 = .ok (.daload, 1) := dk_49 (dk_at dksX3_worked_4 4 rfl rfl)
theorem dX3_worked_101 : decode cX3_worked 101 = .ok (.goto 4, 3) := dk_167 0 4 (dk_at dksX3_worked_4 5 rfl rfl)
theorem dX3_worked_104 : decode cX3_worked 104 = .ok (.dconst 0, 1) := dk_14 (dk_at dksX3_worked_4 8 rfl rfl)
theorem dX3_worked_105 : decode cX3_worked 105 = .ok (.dstore 7, 2) := dk_57 7 (dk_at dksX3_worked_4 9 rfl rfl)
theorem dX3_worked_107 : decode cX3_worked 107 = .ok (.iload 4, 2) := dk_21 4 (dk_at dksX3_worked_4 11 rfl rfl)
theorem dX3_worked_109 : decode cX3_worked 109 = .ok (.bipush 8, 2) := dk_16 8 (dk_at dksX3_worked_4 13 rfl rfl)
theorem dX3_worked_111 : decode cX3_worked 111 = .ok (.if_icmp .ne 17, 3) := dk_160 0 17 (dk_at dksX3_worked_4 15 rfl rfl)
theorem dX3_worked_114 : decode cX3_worked 114 = .ok (.dload 7, 2) := dk_24 7 (dk_at dksX3_worked_4 18 rfl rfl)
theorem dX3_worked_116 : decode cX3_worked 116 = .ok (.dconst 0, 1) := dk_14 (dk_at dksX3_worked_4 20 rfl rfl)
theorem dX3_worked_117 : decode cX3_worked 117 = .ok (.dcmp .l, 1) := dk_151 (dk_at dksX3_worked_4 21 rfl rfl)
theorem dX3_worked_118 : decode cX3_worked 118 = .ok (.ifCond .ne 10, 3) := dk_154 0 10 (dk_at dksX3_worked_5 0 rfl rfl)
theorem dX3_worked_121 : decode cX3_worked 121 = .ok (.aload_n 0, 1) := dk_42 (dk_at dksX3_worked_5 3 rfl rfl)
theorem dX3_worked_122 : decode cX3_worked 122 = .ok (.iconst 3, 1) := dk_6 (dk_at dksX3_worked_5 4 rfl rfl)
theorem dX3_worked_123 : decode cX3_worked 123 = .ok (.invokevirtual 193, 3) := dk_182 0 193 (dk_at dksX3_worked_5 5 rfl rfl)
theorem dX3_worked_126 : decode cX3_worked 126 = .ok (.i2l, 1) := dk_133 (dk_at dksX3_worked_5 8 rfl rfl)
theorem dX3_worked_127 : decode cX3_worked 127 = .ok (.lreturn, 1) := dk_173 (dk_at dksX3_worked_5 9 rfl rfl)
theorem dX3_worked_128 : decode cX3_worked 128 = .ok (.aload_n 0, 1) := dk_42 (dk_at dksX3_worked_5 10 rfl rfl)
theorem dX3_worked_129 : decode cX3_worked 129 = .ok (.getfield 13, 3) := dk_180 0 13 (dk_at dksX3_worked_5 11 rfl rfl)
theorem dX3_worked_132 : decode cX3_worked 132 = .ok (.iload_n 1, 1) := dk_27 (dk_at dksX3_worked_5 14 rfl rfl)
theorem dX3_worked_133 : decode cX3_worked 133 = .ok (.baload, 1) := dk_51 (dk_at dksX3_worked_5 15 rfl rfl)
theorem dX3_worked_134 : decode cX3_worked 134 = .ok (.aload_n 0, 1) := dk_42 (dk_at dksX3_worked_5 16 rfl rfl)
theorem dX3_worked_135 : decode cX3_worked 135 = .ok (.dload 5, 2) := dk_24 5 (dk_at dksX3_worked_5 17 rfl rfl)
theorem dX3_worked_137 : decode cX3_worked 137 = .ok (.dload 7, 2) := dk_24 7 (dk_at dksX3_worked_5 19 rfl rfl)
theorem dX3_worked_139 : decode cX3_worked 139 = .ok (.iload 4, 2) := dk_21 4 (dk_at dksX3_worked_5 21 rfl rfl)
theorem dX3_worked_141 : decode cX3_worked 141 = .ok (.invokevirtual 279, 3) := dk_182 1 23 (dk_at dksX3_worked_6 0 rfl rfl)
theorem dX3_worked_144 : decode cX3_worked 144 = .ok (.invokestatic 216, 3) := dk_184 0 216 (dk_at dksX3_worked_6 3 rfl rfl)
theorem dX3_worked_147 : decode cX3_worked 147 = .ok (.lreturn, 1) := dk_173 (dk_at dksX3_worked_6 6 rfl rfl)
abbrev cX3_workedOf : ByteArray := prog_27_method_46_code
def yX3_workedOf : MethodName := ⟨RX3, "workedOf", "(DDI)D"⟩
def dkwX3_workedOf_4 : List UInt8 := [39, 41, 184, 1, 12, 175, 39, 41, 184, 1, 16, 175, 39, 41, 115, 175]
abbrev dktX3_workedOf_4 : List UInt8 := dkwX3_workedOf_4 ++ []
def dkwX3_workedOf_3 : List UInt8 := [152, 156, 0, 9, 20, 1, 10, 167, 0, 4, 39, 175, 39, 184, 0, 173, 41, 184, 0, 224, 184, 1, 2, 175]
abbrev dktX3_workedOf_3 : List UInt8 := dkwX3_workedOf_3 ++ dktX3_workedOf_4
def dkwX3_workedOf_2 : List UInt8 := [39, 21, 5, 184, 1, 6, 175, 39, 184, 0, 173, 175, 39, 14, 151, 158, 0, 7, 15, 167, 0, 16, 39, 14]
abbrev dktX3_workedOf_2 : List UInt8 := dkwX3_workedOf_2 ++ dktX3_workedOf_3
def dkwX3_workedOf_1 : List UInt8 := [170, 0, 0, 0, 0, 106, 0, 0, 0, 0, 0, 0, 0, 7, 0, 0, 0, 46, 0, 0, 0, 46, 0, 0, 0, 46, 0, 0, 0, 53, 0, 0, 0, 58, 0, 0, 0, 82, 0, 0, 0, 94, 0, 0, 0, 100]
abbrev dktX3_workedOf_1 : List UInt8 := dkwX3_workedOf_1 ++ dktX3_workedOf_2
def dkwX3_workedOf_0 : List UInt8 := [21, 5]
abbrev dktX3_workedOf_0 : List UInt8 := dkwX3_workedOf_0 ++ dktX3_workedOf_1
theorem dksX3_workedOf_0 : cX3_workedOf.data.toList.drop 0 = dktX3_workedOf_0 := by decide +kernel
theorem dksX3_workedOf_1 : cX3_workedOf.data.toList.drop 2 = dktX3_workedOf_1 := dk_seg dksX3_workedOf_0 2 rfl rfl
theorem dksX3_workedOf_2 : cX3_workedOf.data.toList.drop 48 = dktX3_workedOf_2 := dk_seg dksX3_workedOf_1 46 rfl rfl
theorem dksX3_workedOf_3 : cX3_workedOf.data.toList.drop 72 = dktX3_workedOf_3 := dk_seg dksX3_workedOf_2 24 rfl rfl
theorem dksX3_workedOf_4 : cX3_workedOf.data.toList.drop 96 = dktX3_workedOf_4 := dk_seg dksX3_workedOf_3 24 rfl rfl
theorem dX3_workedOf_0 : decode cX3_workedOf 0 = .ok (.iload 5, 2) := dk_21 5 (dk_at dksX3_workedOf_0 0 rfl rfl)
theorem dX3_workedOf_2 : decode cX3_workedOf 2 = .ok (.tableswitch 106 0 7 #[46, 46, 46, 53, 58, 82, 94, 100], 46) := by decide +kernel
theorem dX3_workedOf_48 : decode cX3_workedOf 48 = .ok (.dload_n 1, 1) := dk_39 (dk_at dksX3_workedOf_2 0 rfl rfl)
theorem dX3_workedOf_49 : decode cX3_workedOf 49 = .ok (.iload 5, 2) := dk_21 5 (dk_at dksX3_workedOf_2 1 rfl rfl)
theorem dX3_workedOf_51 : decode cX3_workedOf 51 = .ok (.invokestatic 262, 3) := dk_184 1 6 (dk_at dksX3_workedOf_2 3 rfl rfl)
theorem dX3_workedOf_54 : decode cX3_workedOf 54 = .ok (.dreturn, 1) := dk_175 (dk_at dksX3_workedOf_2 6 rfl rfl)
theorem dX3_workedOf_55 : decode cX3_workedOf 55 = .ok (.dload_n 1, 1) := dk_39 (dk_at dksX3_workedOf_2 7 rfl rfl)
theorem dX3_workedOf_56 : decode cX3_workedOf 56 = .ok (.invokestatic 173, 3) := dk_184 0 173 (dk_at dksX3_workedOf_2 8 rfl rfl)
theorem dX3_workedOf_59 : decode cX3_workedOf 59 = .ok (.dreturn, 1) := dk_175 (dk_at dksX3_workedOf_2 11 rfl rfl)
theorem dX3_workedOf_60 : decode cX3_workedOf 60 = .ok (.dload_n 1, 1) := dk_39 (dk_at dksX3_workedOf_2 12 rfl rfl)
theorem dX3_workedOf_61 : decode cX3_workedOf 61 = .ok (.dconst 0, 1) := dk_14 (dk_at dksX3_workedOf_2 13 rfl rfl)
theorem dX3_workedOf_62 : decode cX3_workedOf 62 = .ok (.dcmp .l, 1) := dk_151 (dk_at dksX3_workedOf_2 14 rfl rfl)
theorem dX3_workedOf_63 : decode cX3_workedOf 63 = .ok (.ifCond .le 7, 3) := dk_158 0 7 (dk_at dksX3_workedOf_2 15 rfl rfl)
theorem dX3_workedOf_66 : decode cX3_workedOf 66 = .ok (.dconst 1, 1) := dk_15 (dk_at dksX3_workedOf_2 18 rfl rfl)
theorem dX3_workedOf_67 : decode cX3_workedOf 67 = .ok (.goto 16, 3) := dk_167 0 16 (dk_at dksX3_workedOf_2 19 rfl rfl)
theorem dX3_workedOf_70 : decode cX3_workedOf 70 = .ok (.dload_n 1, 1) := dk_39 (dk_at dksX3_workedOf_2 22 rfl rfl)
theorem dX3_workedOf_71 : decode cX3_workedOf 71 = .ok (.dconst 0, 1) := dk_14 (dk_at dksX3_workedOf_2 23 rfl rfl)
theorem dX3_workedOf_72 : decode cX3_workedOf 72 = .ok (.dcmp .g, 1) := dk_152 (dk_at dksX3_workedOf_3 0 rfl rfl)
theorem dX3_workedOf_73 : decode cX3_workedOf 73 = .ok (.ifCond .ge 9, 3) := dk_156 0 9 (dk_at dksX3_workedOf_3 1 rfl rfl)
theorem dX3_workedOf_76 : decode cX3_workedOf 76 = .ok (.ldc2_w 266, 3) := dk_20 1 10 (dk_at dksX3_workedOf_3 4 rfl rfl)
theorem dX3_workedOf_79 : decode cX3_workedOf 79 = .ok (.goto 4, 3) := dk_167 0 4 (dk_at dksX3_workedOf_3 7 rfl rfl)
theorem dX3_workedOf_82 : decode cX3_workedOf 82 = .ok (.dload_n 1, 1) := dk_39 (dk_at dksX3_workedOf_3 10 rfl rfl)
theorem dX3_workedOf_83 : decode cX3_workedOf 83 = .ok (.dreturn, 1) := dk_175 (dk_at dksX3_workedOf_3 11 rfl rfl)
theorem dX3_workedOf_84 : decode cX3_workedOf 84 = .ok (.dload_n 1, 1) := dk_39 (dk_at dksX3_workedOf_3 12 rfl rfl)
theorem dX3_workedOf_85 : decode cX3_workedOf 85 = .ok (.invokestatic 173, 3) := dk_184 0 173 (dk_at dksX3_workedOf_3 13 rfl rfl)
theorem dX3_workedOf_88 : decode cX3_workedOf 88 = .ok (.dload_n 3, 1) := dk_41 (dk_at dksX3_workedOf_3 16 rfl rfl)
theorem dX3_workedOf_89 : decode cX3_workedOf 89 = .ok (.invokestatic 224, 3) := dk_184 0 224 (dk_at dksX3_workedOf_3 17 rfl rfl)
theorem dX3_workedOf_92 : decode cX3_workedOf 92 = .ok (.invokestatic 258, 3) := dk_184 1 2 (dk_at dksX3_workedOf_3 20 rfl rfl)
theorem dX3_workedOf_95 : decode cX3_workedOf 95 = .ok (.dreturn, 1) := dk_175 (dk_at dksX3_workedOf_3 23 rfl rfl)
theorem dX3_workedOf_96 : decode cX3_workedOf 96 = .ok (.dload_n 1, 1) := dk_39 (dk_at dksX3_workedOf_4 0 rfl rfl)
theorem dX3_workedOf_97 : decode cX3_workedOf 97 = .ok (.dload_n 3, 1) := dk_41 (dk_at dksX3_workedOf_4 1 rfl rfl)
theorem dX3_workedOf_98 : decode cX3_workedOf 98 = .ok (.invokestatic 268, 3) := dk_184 1 12 (dk_at dksX3_workedOf_4 2 rfl rfl)
theorem dX3_workedOf_101 : decode cX3_workedOf 101 = .ok (.dreturn, 1) := dk_175 (dk_at dksX3_workedOf_4 5 rfl rfl)
theorem dX3_workedOf_102 : decode cX3_workedOf 102 = .ok (.dload_n 1, 1) := dk_39 (dk_at dksX3_workedOf_4 6 rfl rfl)
theorem dX3_workedOf_103 : decode cX3_workedOf 103 = .ok (.dload_n 3, 1) := dk_41 (dk_at dksX3_workedOf_4 7 rfl rfl)
theorem dX3_workedOf_104 : decode cX3_workedOf 104 = .ok (.invokestatic 272, 3) := dk_184 1 16 (dk_at dksX3_workedOf_4 8 rfl rfl)
theorem dX3_workedOf_107 : decode cX3_workedOf 107 = .ok (.dreturn, 1) := dk_175 (dk_at dksX3_workedOf_4 11 rfl rfl)
theorem dX3_workedOf_108 : decode cX3_workedOf 108 = .ok (.dload_n 1, 1) := dk_39 (dk_at dksX3_workedOf_4 12 rfl rfl)
theorem dX3_workedOf_109 : decode cX3_workedOf 109 = .ok (.dload_n 3, 1) := dk_41 (dk_at dksX3_workedOf_4 13 rfl rfl)
theorem dX3_workedOf_110 : decode cX3_workedOf 110 = .ok (.drem, 1) := dk_115 (dk_at dksX3_workedOf_4 14 rfl rfl)
theorem dX3_workedOf_111 : decode cX3_workedOf 111 = .ok (.dreturn, 1) := dk_175 (dk_at dksX3_workedOf_4 15 rfl rfl)
abbrev cX3_roundedBy : ByteArray := prog_27_method_43_code
def yX3_roundedBy : MethodName := ⟨RX3, "roundedBy", "(DI)D"⟩
def dkwX3_roundedBy_4 : List UInt8 := [21, 10, 153, 0, 10, 24, 6, 15, 99, 167, 0, 5, 24, 6, 29, 184, 1, 2, 175]
abbrev dktX3_roundedBy_4 : List UInt8 := dkwX3_roundedBy_4 ++ []
def dkwX3_roundedBy_3 : List UInt8 := [151, 158, 0, 20, 28, 29, 153, 0, 7, 3, 167, 0, 4, 4, 160, 0, 7, 4, 167, 0, 4, 3, 54, 10]
abbrev dktX3_roundedBy_3 : List UInt8 := dkwX3_roundedBy_3 ++ dktX3_roundedBy_4
def dkwX3_roundedBy_2 : List UInt8 := [154, 0, 17, 24, 6, 143, 10, 127, 10, 148, 154, 0, 7, 4, 167, 0, 32, 3, 167, 0, 28, 24, 8, 14]
abbrev dktX3_roundedBy_2 : List UInt8 := dkwX3_roundedBy_2 ++ dktX3_roundedBy_3
def dkwX3_roundedBy_1 : List UInt8 := [57, 8, 28, 5, 160, 0, 39, 24, 8, 20, 1, 0, 151, 157, 0, 22, 24, 8, 20, 1, 0, 151]
abbrev dktX3_roundedBy_1 : List UInt8 := dkwX3_roundedBy_1 ++ dktX3_roundedBy_2
def dkwX3_roundedBy_0 : List UInt8 := [38, 184, 0, 224, 62, 38, 184, 0, 173, 57, 4, 24, 4, 184, 0, 253, 57, 6, 24, 4, 24, 6, 103]
abbrev dktX3_roundedBy_0 : List UInt8 := dkwX3_roundedBy_0 ++ dktX3_roundedBy_1
theorem dksX3_roundedBy_0 : cX3_roundedBy.data.toList.drop 0 = dktX3_roundedBy_0 := by decide +kernel
theorem dksX3_roundedBy_1 : cX3_roundedBy.data.toList.drop 23 = dktX3_roundedBy_1 := dk_seg dksX3_roundedBy_0 23 rfl rfl
theorem dksX3_roundedBy_2 : cX3_roundedBy.data.toList.drop 45 = dktX3_roundedBy_2 := dk_seg dksX3_roundedBy_1 22 rfl rfl
theorem dksX3_roundedBy_3 : cX3_roundedBy.data.toList.drop 69 = dktX3_roundedBy_3 := dk_seg dksX3_roundedBy_2 24 rfl rfl
theorem dksX3_roundedBy_4 : cX3_roundedBy.data.toList.drop 93 = dktX3_roundedBy_4 := dk_seg dksX3_roundedBy_3 24 rfl rfl
theorem dX3_roundedBy_0 : decode cX3_roundedBy 0 = .ok (.dload_n 0, 1) := dk_38 (dk_at dksX3_roundedBy_0 0 rfl rfl)
theorem dX3_roundedBy_1 : decode cX3_roundedBy 1 = .ok (.invokestatic 224, 3) := dk_184 0 224 (dk_at dksX3_roundedBy_0 1 rfl rfl)
theorem dX3_roundedBy_4 : decode cX3_roundedBy 4 = .ok (.istore_n 3, 1) := dk_62 (dk_at dksX3_roundedBy_0 4 rfl rfl)
theorem dX3_roundedBy_5 : decode cX3_roundedBy 5 = .ok (.dload_n 0, 1) := dk_38 (dk_at dksX3_roundedBy_0 5 rfl rfl)
theorem dX3_roundedBy_6 : decode cX3_roundedBy 6 = .ok (.invokestatic 173, 3) := dk_184 0 173 (dk_at dksX3_roundedBy_0 6 rfl rfl)
theorem dX3_roundedBy_9 : decode cX3_roundedBy 9 = .ok (.dstore 4, 2) := dk_57 4 (dk_at dksX3_roundedBy_0 9 rfl rfl)
theorem dX3_roundedBy_11 : decode cX3_roundedBy 11 = .ok (.dload 4, 2) := dk_24 4 (dk_at dksX3_roundedBy_0 11 rfl rfl)
theorem dX3_roundedBy_13 : decode cX3_roundedBy 13 = .ok (.invokestatic 253, 3) := dk_184 0 253 (dk_at dksX3_roundedBy_0 13 rfl rfl)
theorem dX3_roundedBy_16 : decode cX3_roundedBy 16 = .ok (.dstore 6, 2) := dk_57 6 (dk_at dksX3_roundedBy_0 16 rfl rfl)
theorem dX3_roundedBy_18 : decode cX3_roundedBy 18 = .ok (.dload 4, 2) := dk_24 4 (dk_at dksX3_roundedBy_0 18 rfl rfl)
theorem dX3_roundedBy_20 : decode cX3_roundedBy 20 = .ok (.dload 6, 2) := dk_24 6 (dk_at dksX3_roundedBy_0 20 rfl rfl)
theorem dX3_roundedBy_22 : decode cX3_roundedBy 22 = .ok (.dsub, 1) := dk_103 (dk_at dksX3_roundedBy_0 22 rfl rfl)
theorem dX3_roundedBy_23 : decode cX3_roundedBy 23 = .ok (.dstore 8, 2) := dk_57 8 (dk_at dksX3_roundedBy_1 0 rfl rfl)
theorem dX3_roundedBy_25 : decode cX3_roundedBy 25 = .ok (.iload_n 2, 1) := dk_28 (dk_at dksX3_roundedBy_1 2 rfl rfl)
theorem dX3_roundedBy_26 : decode cX3_roundedBy 26 = .ok (.iconst 2, 1) := dk_5 (dk_at dksX3_roundedBy_1 3 rfl rfl)
theorem dX3_roundedBy_27 : decode cX3_roundedBy 27 = .ok (.if_icmp .ne 39, 3) := dk_160 0 39 (dk_at dksX3_roundedBy_1 4 rfl rfl)
theorem dX3_roundedBy_30 : decode cX3_roundedBy 30 = .ok (.dload 8, 2) := dk_24 8 (dk_at dksX3_roundedBy_1 7 rfl rfl)
theorem dX3_roundedBy_32 : decode cX3_roundedBy 32 = .ok (.ldc2_w 256, 3) := dk_20 1 0 (dk_at dksX3_roundedBy_1 9 rfl rfl)
theorem dX3_roundedBy_35 : decode cX3_roundedBy 35 = .ok (.dcmp .l, 1) := dk_151 (dk_at dksX3_roundedBy_1 12 rfl rfl)
theorem dX3_roundedBy_36 : decode cX3_roundedBy 36 = .ok (.ifCond .gt 22, 3) := dk_157 0 22 (dk_at dksX3_roundedBy_1 13 rfl rfl)
theorem dX3_roundedBy_39 : decode cX3_roundedBy 39 = .ok (.dload 8, 2) := dk_24 8 (dk_at dksX3_roundedBy_1 16 rfl rfl)
theorem dX3_roundedBy_41 : decode cX3_roundedBy 41 = .ok (.ldc2_w 256, 3) := dk_20 1 0 (dk_at dksX3_roundedBy_1 18 rfl rfl)
theorem dX3_roundedBy_44 : decode cX3_roundedBy 44 = .ok (.dcmp .l, 1) := dk_151 (dk_at dksX3_roundedBy_1 21 rfl rfl)
theorem dX3_roundedBy_45 : decode cX3_roundedBy 45 = .ok (.ifCond .ne 17, 3) := dk_154 0 17 (dk_at dksX3_roundedBy_2 0 rfl rfl)
theorem dX3_roundedBy_48 : decode cX3_roundedBy 48 = .ok (.dload 6, 2) := dk_24 6 (dk_at dksX3_roundedBy_2 3 rfl rfl)
theorem dX3_roundedBy_50 : decode cX3_roundedBy 50 = .ok (.d2l, 1) := dk_143 (dk_at dksX3_roundedBy_2 5 rfl rfl)
theorem dX3_roundedBy_51 : decode cX3_roundedBy 51 = .ok (.lconst 1, 1) := dk_10 (dk_at dksX3_roundedBy_2 6 rfl rfl)
theorem dX3_roundedBy_52 : decode cX3_roundedBy 52 = .ok (.land, 1) := dk_127 (dk_at dksX3_roundedBy_2 7 rfl rfl)
theorem dX3_roundedBy_53 : decode cX3_roundedBy 53 = .ok (.lconst 1, 1) := dk_10 (dk_at dksX3_roundedBy_2 8 rfl rfl)
theorem dX3_roundedBy_54 : decode cX3_roundedBy 54 = .ok (.lcmp, 1) := dk_148 (dk_at dksX3_roundedBy_2 9 rfl rfl)
theorem dX3_roundedBy_55 : decode cX3_roundedBy 55 = .ok (.ifCond .ne 7, 3) := dk_154 0 7 (dk_at dksX3_roundedBy_2 10 rfl rfl)
theorem dX3_roundedBy_58 : decode cX3_roundedBy 58 = .ok (.iconst 1, 1) := dk_4 (dk_at dksX3_roundedBy_2 13 rfl rfl)
theorem dX3_roundedBy_59 : decode cX3_roundedBy 59 = .ok (.goto 32, 3) := dk_167 0 32 (dk_at dksX3_roundedBy_2 14 rfl rfl)
theorem dX3_roundedBy_62 : decode cX3_roundedBy 62 = .ok (.iconst 0, 1) := dk_3 (dk_at dksX3_roundedBy_2 17 rfl rfl)
theorem dX3_roundedBy_63 : decode cX3_roundedBy 63 = .ok (.goto 28, 3) := dk_167 0 28 (dk_at dksX3_roundedBy_2 18 rfl rfl)
theorem dX3_roundedBy_66 : decode cX3_roundedBy 66 = .ok (.dload 8, 2) := dk_24 8 (dk_at dksX3_roundedBy_2 21 rfl rfl)
theorem dX3_roundedBy_68 : decode cX3_roundedBy 68 = .ok (.dconst 0, 1) := dk_14 (dk_at dksX3_roundedBy_2 23 rfl rfl)
theorem dX3_roundedBy_69 : decode cX3_roundedBy 69 = .ok (.dcmp .l, 1) := dk_151 (dk_at dksX3_roundedBy_3 0 rfl rfl)
theorem dX3_roundedBy_70 : decode cX3_roundedBy 70 = .ok (.ifCond .le 20, 3) := dk_158 0 20 (dk_at dksX3_roundedBy_3 1 rfl rfl)
theorem dX3_roundedBy_73 : decode cX3_roundedBy 73 = .ok (.iload_n 2, 1) := dk_28 (dk_at dksX3_roundedBy_3 4 rfl rfl)
theorem dX3_roundedBy_74 : decode cX3_roundedBy 74 = .ok (.iload_n 3, 1) := dk_29 (dk_at dksX3_roundedBy_3 5 rfl rfl)
theorem dX3_roundedBy_75 : decode cX3_roundedBy 75 = .ok (.ifCond .eq 7, 3) := dk_153 0 7 (dk_at dksX3_roundedBy_3 6 rfl rfl)
theorem dX3_roundedBy_78 : decode cX3_roundedBy 78 = .ok (.iconst 0, 1) := dk_3 (dk_at dksX3_roundedBy_3 9 rfl rfl)
theorem dX3_roundedBy_79 : decode cX3_roundedBy 79 = .ok (.goto 4, 3) := dk_167 0 4 (dk_at dksX3_roundedBy_3 10 rfl rfl)
theorem dX3_roundedBy_82 : decode cX3_roundedBy 82 = .ok (.iconst 1, 1) := dk_4 (dk_at dksX3_roundedBy_3 13 rfl rfl)
theorem dX3_roundedBy_83 : decode cX3_roundedBy 83 = .ok (.if_icmp .ne 7, 3) := dk_160 0 7 (dk_at dksX3_roundedBy_3 14 rfl rfl)
theorem dX3_roundedBy_86 : decode cX3_roundedBy 86 = .ok (.iconst 1, 1) := dk_4 (dk_at dksX3_roundedBy_3 17 rfl rfl)
theorem dX3_roundedBy_87 : decode cX3_roundedBy 87 = .ok (.goto 4, 3) := dk_167 0 4 (dk_at dksX3_roundedBy_3 18 rfl rfl)
theorem dX3_roundedBy_90 : decode cX3_roundedBy 90 = .ok (.iconst 0, 1) := dk_3 (dk_at dksX3_roundedBy_3 21 rfl rfl)
theorem dX3_roundedBy_91 : decode cX3_roundedBy 91 = .ok (.istore 10, 2) := dk_54 10 (dk_at dksX3_roundedBy_3 22 rfl rfl)
theorem dX3_roundedBy_93 : decode cX3_roundedBy 93 = .ok (.iload 10, 2) := dk_21 10 (dk_at dksX3_roundedBy_4 0 rfl rfl)
theorem dX3_roundedBy_95 : decode cX3_roundedBy 95 = .ok (.ifCond .eq 10, 3) := dk_153 0 10 (dk_at dksX3_roundedBy_4 2 rfl rfl)
theorem dX3_roundedBy_98 : decode cX3_roundedBy 98 = .ok (.dload 6, 2) := dk_24 6 (dk_at dksX3_roundedBy_4 5 rfl rfl)
theorem dX3_roundedBy_100 : decode cX3_roundedBy 100 = .ok (.dconst 1, 1) := dk_15 (dk_at dksX3_roundedBy_4 7 rfl rfl)
theorem dX3_roundedBy_101 : decode cX3_roundedBy 101 = .ok (.dadd, 1) := dk_99 (dk_at dksX3_roundedBy_4 8 rfl rfl)
theorem dX3_roundedBy_102 : decode cX3_roundedBy 102 = .ok (.goto 5, 3) := dk_167 0 5 (dk_at dksX3_roundedBy_4 9 rfl rfl)
theorem dX3_roundedBy_105 : decode cX3_roundedBy 105 = .ok (.dload 6, 2) := dk_24 6 (dk_at dksX3_roundedBy_4 12 rfl rfl)
theorem dX3_roundedBy_107 : decode cX3_roundedBy 107 = .ok (.iload_n 3, 1) := dk_29 (dk_at dksX3_roundedBy_4 14 rfl rfl)
theorem dX3_roundedBy_108 : decode cX3_roundedBy 108 = .ok (.invokestatic 258, 3) := dk_184 1 2 (dk_at dksX3_roundedBy_4 15 rfl rfl)
theorem dX3_roundedBy_111 : decode cX3_roundedBy 111 = .ok (.dreturn, 1) := dk_175 (dk_at dksX3_roundedBy_4 18 rfl rfl)
abbrev cX3_cut : ByteArray := prog_27_method_42_code
def yX3_cut : MethodName := ⟨RX3, "cut", "(D)D"⟩
def dkwX3_cut_0 : List UInt8 := [38, 20, 0, 220, 151, 155, 0, 7, 38, 167, 0, 6, 38, 143, 138, 175]
abbrev dktX3_cut_0 : List UInt8 := dkwX3_cut_0 ++ []
theorem dksX3_cut_0 : cX3_cut.data.toList.drop 0 = dktX3_cut_0 := by decide +kernel
theorem dX3_cut_0 : decode cX3_cut 0 = .ok (.dload_n 0, 1) := dk_38 (dk_at dksX3_cut_0 0 rfl rfl)
theorem dX3_cut_1 : decode cX3_cut 1 = .ok (.ldc2_w 220, 3) := dk_20 0 220 (dk_at dksX3_cut_0 1 rfl rfl)
theorem dX3_cut_4 : decode cX3_cut 4 = .ok (.dcmp .l, 1) := dk_151 (dk_at dksX3_cut_0 4 rfl rfl)
theorem dX3_cut_5 : decode cX3_cut 5 = .ok (.ifCond .lt 7, 3) := dk_155 0 7 (dk_at dksX3_cut_0 5 rfl rfl)
theorem dX3_cut_8 : decode cX3_cut 8 = .ok (.dload_n 0, 1) := dk_38 (dk_at dksX3_cut_0 8 rfl rfl)
theorem dX3_cut_9 : decode cX3_cut 9 = .ok (.goto 6, 3) := dk_167 0 6 (dk_at dksX3_cut_0 9 rfl rfl)
theorem dX3_cut_12 : decode cX3_cut 12 = .ok (.dload_n 0, 1) := dk_38 (dk_at dksX3_cut_0 12 rfl rfl)
theorem dX3_cut_13 : decode cX3_cut 13 = .ok (.d2l, 1) := dk_143 (dk_at dksX3_cut_0 13 rfl rfl)
theorem dX3_cut_14 : decode cX3_cut 14 = .ok (.l2d, 1) := dk_138 (dk_at dksX3_cut_0 14 rfl rfl)
theorem dX3_cut_15 : decode cX3_cut 15 = .ok (.dreturn, 1) := dk_175 (dk_at dksX3_cut_0 15 rfl rfl)
abbrev cX3_signed : ByteArray := prog_27_method_41_code
def yX3_signed : MethodName := ⟨RX3, "signed", "(DZ)D"⟩
def dkwX3_signed_0 : List UInt8 := [28, 153, 0, 8, 38, 119, 167, 0, 4, 38, 175]
abbrev dktX3_signed_0 : List UInt8 := dkwX3_signed_0 ++ []
theorem dksX3_signed_0 : cX3_signed.data.toList.drop 0 = dktX3_signed_0 := by decide +kernel
theorem dX3_signed_0 : decode cX3_signed 0 = .ok (.iload_n 2, 1) := dk_28 (dk_at dksX3_signed_0 0 rfl rfl)
theorem dX3_signed_1 : decode cX3_signed 1 = .ok (.ifCond .eq 8, 3) := dk_153 0 8 (dk_at dksX3_signed_0 1 rfl rfl)
theorem dX3_signed_4 : decode cX3_signed 4 = .ok (.dload_n 0, 1) := dk_38 (dk_at dksX3_signed_0 4 rfl rfl)
theorem dX3_signed_5 : decode cX3_signed 5 = .ok (.dneg, 1) := dk_119 (dk_at dksX3_signed_0 5 rfl rfl)
theorem dX3_signed_6 : decode cX3_signed 6 = .ok (.goto 4, 3) := dk_167 0 4 (dk_at dksX3_signed_0 6 rfl rfl)
theorem dX3_signed_9 : decode cX3_signed 9 = .ok (.dload_n 0, 1) := dk_38 (dk_at dksX3_signed_0 9 rfl rfl)
theorem dX3_signed_10 : decode cX3_signed 10 = .ok (.dreturn, 1) := dk_175 (dk_at dksX3_signed_0 10 rfl rfl)
abbrev cX3_lesser : ByteArray := prog_27_method_44_code
def yX3_lesser : MethodName := ⟨RX3, "lesser", "(DD)D"⟩
def dkwX3_lesser_1 : List UInt8 := [175]
abbrev dktX3_lesser_1 : List UInt8 := dkwX3_lesser_1 ++ []
def dkwX3_lesser_0 : List UInt8 := [38, 40, 152, 155, 0, 16, 38, 40, 151, 154, 0, 14, 38, 184, 0, 224, 153, 0, 7, 38, 167, 0, 4, 40]
abbrev dktX3_lesser_0 : List UInt8 := dkwX3_lesser_0 ++ dktX3_lesser_1
theorem dksX3_lesser_0 : cX3_lesser.data.toList.drop 0 = dktX3_lesser_0 := by decide +kernel
theorem dksX3_lesser_1 : cX3_lesser.data.toList.drop 24 = dktX3_lesser_1 := dk_seg dksX3_lesser_0 24 rfl rfl
theorem dX3_lesser_0 : decode cX3_lesser 0 = .ok (.dload_n 0, 1) := dk_38 (dk_at dksX3_lesser_0 0 rfl rfl)
theorem dX3_lesser_1 : decode cX3_lesser 1 = .ok (.dload_n 2, 1) := dk_40 (dk_at dksX3_lesser_0 1 rfl rfl)
theorem dX3_lesser_2 : decode cX3_lesser 2 = .ok (.dcmp .g, 1) := dk_152 (dk_at dksX3_lesser_0 2 rfl rfl)
theorem dX3_lesser_3 : decode cX3_lesser 3 = .ok (.ifCond .lt 16, 3) := dk_155 0 16 (dk_at dksX3_lesser_0 3 rfl rfl)
theorem dX3_lesser_6 : decode cX3_lesser 6 = .ok (.dload_n 0, 1) := dk_38 (dk_at dksX3_lesser_0 6 rfl rfl)
theorem dX3_lesser_7 : decode cX3_lesser 7 = .ok (.dload_n 2, 1) := dk_40 (dk_at dksX3_lesser_0 7 rfl rfl)
theorem dX3_lesser_8 : decode cX3_lesser 8 = .ok (.dcmp .l, 1) := dk_151 (dk_at dksX3_lesser_0 8 rfl rfl)
theorem dX3_lesser_9 : decode cX3_lesser 9 = .ok (.ifCond .ne 14, 3) := dk_154 0 14 (dk_at dksX3_lesser_0 9 rfl rfl)
theorem dX3_lesser_12 : decode cX3_lesser 12 = .ok (.dload_n 0, 1) := dk_38 (dk_at dksX3_lesser_0 12 rfl rfl)
theorem dX3_lesser_13 : decode cX3_lesser 13 = .ok (.invokestatic 224, 3) := dk_184 0 224 (dk_at dksX3_lesser_0 13 rfl rfl)
theorem dX3_lesser_16 : decode cX3_lesser 16 = .ok (.ifCond .eq 7, 3) := dk_153 0 7 (dk_at dksX3_lesser_0 16 rfl rfl)
theorem dX3_lesser_19 : decode cX3_lesser 19 = .ok (.dload_n 0, 1) := dk_38 (dk_at dksX3_lesser_0 19 rfl rfl)
theorem dX3_lesser_20 : decode cX3_lesser 20 = .ok (.goto 4, 3) := dk_167 0 4 (dk_at dksX3_lesser_0 20 rfl rfl)
theorem dX3_lesser_23 : decode cX3_lesser 23 = .ok (.dload_n 2, 1) := dk_40 (dk_at dksX3_lesser_0 23 rfl rfl)
theorem dX3_lesser_24 : decode cX3_lesser 24 = .ok (.dreturn, 1) := dk_175 (dk_at dksX3_lesser_1 0 rfl rfl)
abbrev cX3_greater : ByteArray := prog_27_method_45_code
def yX3_greater : MethodName := ⟨RX3, "greater", "(DD)D"⟩
def dkwX3_greater_1 : List UInt8 := [175]
abbrev dktX3_greater_1 : List UInt8 := dkwX3_greater_1 ++ []
def dkwX3_greater_0 : List UInt8 := [38, 40, 151, 157, 0, 16, 38, 40, 151, 154, 0, 14, 38, 184, 0, 224, 154, 0, 7, 38, 167, 0, 4, 40]
abbrev dktX3_greater_0 : List UInt8 := dkwX3_greater_0 ++ dktX3_greater_1
theorem dksX3_greater_0 : cX3_greater.data.toList.drop 0 = dktX3_greater_0 := by decide +kernel
theorem dksX3_greater_1 : cX3_greater.data.toList.drop 24 = dktX3_greater_1 := dk_seg dksX3_greater_0 24 rfl rfl
theorem dX3_greater_0 : decode cX3_greater 0 = .ok (.dload_n 0, 1) := dk_38 (dk_at dksX3_greater_0 0 rfl rfl)
theorem dX3_greater_1 : decode cX3_greater 1 = .ok (.dload_n 2, 1) := dk_40 (dk_at dksX3_greater_0 1 rfl rfl)
theorem dX3_greater_2 : decode cX3_greater 2 = .ok (.dcmp .l, 1) := dk_151 (dk_at dksX3_greater_0 2 rfl rfl)
theorem dX3_greater_3 : decode cX3_greater 3 = .ok (.ifCond .gt 16, 3) := dk_157 0 16 (dk_at dksX3_greater_0 3 rfl rfl)
theorem dX3_greater_6 : decode cX3_greater 6 = .ok (.dload_n 0, 1) := dk_38 (dk_at dksX3_greater_0 6 rfl rfl)
theorem dX3_greater_7 : decode cX3_greater 7 = .ok (.dload_n 2, 1) := dk_40 (dk_at dksX3_greater_0 7 rfl rfl)
theorem dX3_greater_8 : decode cX3_greater 8 = .ok (.dcmp .l, 1) := dk_151 (dk_at dksX3_greater_0 8 rfl rfl)
theorem dX3_greater_9 : decode cX3_greater 9 = .ok (.ifCond .ne 14, 3) := dk_154 0 14 (dk_at dksX3_greater_0 9 rfl rfl)
theorem dX3_greater_12 : decode cX3_greater 12 = .ok (.dload_n 0, 1) := dk_38 (dk_at dksX3_greater_0 12 rfl rfl)
theorem dX3_greater_13 : decode cX3_greater 13 = .ok (.invokestatic 224, 3) := dk_184 0 224 (dk_at dksX3_greater_0 13 rfl rfl)
theorem dX3_greater_16 : decode cX3_greater 16 = .ok (.ifCond .ne 7, 3) := dk_154 0 7 (dk_at dksX3_greater_0 16 rfl rfl)
theorem dX3_greater_19 : decode cX3_greater 19 = .ok (.dload_n 0, 1) := dk_38 (dk_at dksX3_greater_0 19 rfl rfl)
theorem dX3_greater_20 : decode cX3_greater 20 = .ok (.goto 4, 3) := dk_167 0 4 (dk_at dksX3_greater_0 20 rfl rfl)
theorem dX3_greater_23 : decode cX3_greater 23 = .ok (.dload_n 2, 1) := dk_40 (dk_at dksX3_greater_0 23 rfl rfl)
theorem dX3_greater_24 : decode cX3_greater 24 = .ok (.dreturn, 1) := dk_175 (dk_at dksX3_greater_1 0 rfl rfl)
abbrev cX3_whole : ByteArray := prog_27_method_48_code
def yX3_whole : MethodName := ⟨RX3, "whole", "(III)J"⟩
def dkwX3_whole_3 : List UInt8 := [167, 0, 20, 29, 5, 160, 0, 11, 24, 4, 142, 147, 133, 167, 0, 7, 24, 4, 144, 140, 173]
abbrev dktX3_whole_3 : List UInt8 := dkwX3_whole_3 ++ []
def dkwX3_whole_2 : List UInt8 := [28, 96, 49, 57, 4, 29, 154, 0, 9, 24, 4, 143, 167, 0, 32, 29, 4, 160, 0, 10, 24, 4, 142, 133]
abbrev dktX3_whole_2 : List UInt8 := dkwX3_whole_2 ++ dktX3_whole_3
def dkwX3_whole_1 : List UInt8 := [28, 182, 0, 200, 181, 0, 94, 42, 180, 0, 94, 153, 0, 5, 9, 173, 42, 180, 0, 17, 16, 60, 27, 104]
abbrev dktX3_whole_1 : List UInt8 := dkwX3_whole_1 ++ dktX3_whole_2
def dkwX3_whole_0 : List UInt8 := [42, 3, 181, 0, 94, 29, 133, 9, 20, 1, 27, 184, 0, 99, 154, 0, 7, 20, 1, 21, 173, 42, 42, 27]
abbrev dktX3_whole_0 : List UInt8 := dkwX3_whole_0 ++ dktX3_whole_1
theorem dksX3_whole_0 : cX3_whole.data.toList.drop 0 = dktX3_whole_0 := by decide +kernel
theorem dksX3_whole_1 : cX3_whole.data.toList.drop 24 = dktX3_whole_1 := dk_seg dksX3_whole_0 24 rfl rfl
theorem dksX3_whole_2 : cX3_whole.data.toList.drop 48 = dktX3_whole_2 := dk_seg dksX3_whole_1 24 rfl rfl
theorem dksX3_whole_3 : cX3_whole.data.toList.drop 72 = dktX3_whole_3 := dk_seg dksX3_whole_2 24 rfl rfl
theorem dX3_whole_0 : decode cX3_whole 0 = .ok (.aload_n 0, 1) := dk_42 (dk_at dksX3_whole_0 0 rfl rfl)
theorem dX3_whole_1 : decode cX3_whole 1 = .ok (.iconst 0, 1) := dk_3 (dk_at dksX3_whole_0 1 rfl rfl)
theorem dX3_whole_2 : decode cX3_whole 2 = .ok (.putfield 94, 3) := dk_181 0 94 (dk_at dksX3_whole_0 2 rfl rfl)
theorem dX3_whole_5 : decode cX3_whole 5 = .ok (.iload_n 3, 1) := dk_29 (dk_at dksX3_whole_0 5 rfl rfl)
theorem dX3_whole_6 : decode cX3_whole 6 = .ok (.i2l, 1) := dk_133 (dk_at dksX3_whole_0 6 rfl rfl)
theorem dX3_whole_7 : decode cX3_whole 7 = .ok (.lconst 0, 1) := dk_9 (dk_at dksX3_whole_0 7 rfl rfl)
theorem dX3_whole_8 : decode cX3_whole 8 = .ok (.ldc2_w 283, 3) := dk_20 1 27 (dk_at dksX3_whole_0 8 rfl rfl)
theorem dX3_whole_11 : decode cX3_whole 11 = .ok (.invokestatic 99, 3) := dk_184 0 99 (dk_at dksX3_whole_0 11 rfl rfl)
theorem dX3_whole_14 : decode cX3_whole 14 = .ok (.ifCond .ne 7, 3) := dk_154 0 7 (dk_at dksX3_whole_0 14 rfl rfl)
theorem dX3_whole_17 : decode cX3_whole 17 = .ok (.ldc2_w 277, 3) := dk_20 1 21 (dk_at dksX3_whole_0 17 rfl rfl)
theorem dX3_whole_20 : decode cX3_whole 20 = .ok (.lreturn, 1) := dk_173 (dk_at dksX3_whole_0 20 rfl rfl)
theorem dX3_whole_21 : decode cX3_whole 21 = .ok (.aload_n 0, 1) := dk_42 (dk_at dksX3_whole_0 21 rfl rfl)
theorem dX3_whole_22 : decode cX3_whole 22 = .ok (.aload_n 0, 1) := dk_42 (dk_at dksX3_whole_0 22 rfl rfl)
theorem dX3_whole_23 : decode cX3_whole 23 = .ok (.iload_n 1, 1) := dk_27 (dk_at dksX3_whole_0 23 rfl rfl)
theorem dX3_whole_24 : decode cX3_whole 24 = .ok (.iload_n 2, 1) := dk_28 (dk_at dksX3_whole_1 0 rfl rfl)
theorem dX3_whole_25 : decode cX3_whole 25 = .ok (.invokevirtual 200, 3) := dk_182 0 200 (dk_at dksX3_whole_1 1 rfl rfl)
theorem dX3_whole_28 : decode cX3_whole 28 = .ok (.putfield 94, 3) := dk_181 0 94 (dk_at dksX3_whole_1 4 rfl rfl)
theorem dX3_whole_31 : decode cX3_whole 31 = .ok (.aload_n 0, 1) := dk_42 (dk_at dksX3_whole_1 7 rfl rfl)
theorem dX3_whole_32 : decode cX3_whole 32 = .ok (.getfield 94, 3) := dk_180 0 94 (dk_at dksX3_whole_1 8 rfl rfl)
theorem dX3_whole_35 : decode cX3_whole 35 = .ok (.ifCond .eq 5, 3) := dk_153 0 5 (dk_at dksX3_whole_1 11 rfl rfl)
theorem dX3_whole_38 : decode cX3_whole 38 = .ok (.lconst 0, 1) := dk_9 (dk_at dksX3_whole_1 14 rfl rfl)
theorem dX3_whole_39 : decode cX3_whole 39 = .ok (.lreturn, 1) := dk_173 (dk_at dksX3_whole_1 15 rfl rfl)
theorem dX3_whole_40 : decode cX3_whole 40 = .ok (.aload_n 0, 1) := dk_42 (dk_at dksX3_whole_1 16 rfl rfl)
theorem dX3_whole_41 : decode cX3_whole 41 = .ok (.getfield 17, 3) := dk_180 0 17 (dk_at dksX3_whole_1 17 rfl rfl)
theorem dX3_whole_44 : decode cX3_whole 44 = .ok (.bipush 60, 2) := dk_16 60 (dk_at dksX3_whole_1 20 rfl rfl)
theorem dX3_whole_46 : decode cX3_whole 46 = .ok (.iload_n 1, 1) := dk_27 (dk_at dksX3_whole_1 22 rfl rfl)
theorem dX3_whole_47 : decode cX3_whole 47 = .ok (.imul, 1) := dk_104 (dk_at dksX3_whole_1 23 rfl rfl)
theorem dX3_whole_48 : decode cX3_whole 48 = .ok (.iload_n 2, 1) := dk_28 (dk_at dksX3_whole_2 0 rfl rfl)
theorem dX3_whole_49 : decode cX3_whole 49 = .ok (.iadd, 1) := dk_96 (dk_at dksX3_whole_2 1 rfl rfl)
theorem dX3_whole_50 : decode cX3_whole 50 = .ok (.daload, 1) := dk_49 (dk_at dksX3_whole_2 2 rfl rfl)
theorem dX3_whole_51 : decode cX3_whole 51 = .ok (.dstore 4, 2) := dk_57 4 (dk_at dksX3_whole_2 3 rfl rfl)
theorem dX3_whole_53 : decode cX3_whole 53 = .ok (.iload_n 3, 1) := dk_29 (dk_at dksX3_whole_2 5 rfl rfl)
theorem dX3_whole_54 : decode cX3_whole 54 = .ok (.ifCond .ne 9, 3) := dk_154 0 9 (dk_at dksX3_whole_2 6 rfl rfl)
theorem dX3_whole_57 : decode cX3_whole 57 = .ok (.dload 4, 2) := dk_24 4 (dk_at dksX3_whole_2 9 rfl rfl)
theorem dX3_whole_59 : decode cX3_whole 59 = .ok (.d2l, 1) := dk_143 (dk_at dksX3_whole_2 11 rfl rfl)
theorem dX3_whole_60 : decode cX3_whole 60 = .ok (.goto 32, 3) := dk_167 0 32 (dk_at dksX3_whole_2 12 rfl rfl)
theorem dX3_whole_63 : decode cX3_whole 63 = .ok (.iload_n 3, 1) := dk_29 (dk_at dksX3_whole_2 15 rfl rfl)
theorem dX3_whole_64 : decode cX3_whole 64 = .ok (.iconst 1, 1) := dk_4 (dk_at dksX3_whole_2 16 rfl rfl)
theorem dX3_whole_65 : decode cX3_whole 65 = .ok (.if_icmp .ne 10, 3) := dk_160 0 10 (dk_at dksX3_whole_2 17 rfl rfl)
theorem dX3_whole_68 : decode cX3_whole 68 = .ok (.dload 4, 2) := dk_24 4 (dk_at dksX3_whole_2 20 rfl rfl)
theorem dX3_whole_70 : decode cX3_whole 70 = .ok (.d2i, 1) := dk_142 (dk_at dksX3_whole_2 22 rfl rfl)
theorem dX3_whole_71 : decode cX3_whole 71 = .ok (.i2l, 1) := dk_133 (dk_at dksX3_whole_2 23 rfl rfl)
theorem dX3_whole_72 : decode cX3_whole 72 = .ok (.goto 20, 3) := dk_167 0 20 (dk_at dksX3_whole_3 0 rfl rfl)
theorem dX3_whole_75 : decode cX3_whole 75 = .ok (.iload_n 3, 1) := dk_29 (dk_at dksX3_whole_3 3 rfl rfl)
theorem dX3_whole_76 : decode cX3_whole 76 = .ok (.iconst 2, 1) := dk_5 (dk_at dksX3_whole_3 4 rfl rfl)
theorem dX3_whole_77 : decode cX3_whole 77 = .ok (.if_icmp .ne 11, 3) := dk_160 0 11 (dk_at dksX3_whole_3 5 rfl rfl)
theorem dX3_whole_80 : decode cX3_whole 80 = .ok (.dload 4, 2) := dk_24 4 (dk_at dksX3_whole_3 8 rfl rfl)
theorem dX3_whole_82 : decode cX3_whole 82 = .ok (.d2i, 1) := dk_142 (dk_at dksX3_whole_3 10 rfl rfl)
theorem dX3_whole_83 : decode cX3_whole 83 = .ok (.i2s, 1) := dk_147 (dk_at dksX3_whole_3 11 rfl rfl)
theorem dX3_whole_84 : decode cX3_whole 84 = .ok (.i2l, 1) := dk_133 (dk_at dksX3_whole_3 12 rfl rfl)
theorem dX3_whole_85 : decode cX3_whole 85 = .ok (.goto 7, 3) := dk_167 0 7 (dk_at dksX3_whole_3 13 rfl rfl)
theorem dX3_whole_88 : decode cX3_whole 88 = .ok (.dload 4, 2) := dk_24 4 (dk_at dksX3_whole_3 16 rfl rfl)
theorem dX3_whole_90 : decode cX3_whole 90 = .ok (.d2f, 1) := dk_144 (dk_at dksX3_whole_3 18 rfl rfl)
theorem dX3_whole_91 : decode cX3_whole 91 = .ok (.f2l, 1) := dk_140 (dk_at dksX3_whole_3 19 rfl rfl)
theorem dX3_whole_92 : decode cX3_whole 92 = .ok (.lreturn, 1) := dk_173 (dk_at dksX3_whole_3 20 rfl rfl)
abbrev cX3_units : ByteArray := prog_27_method_49_code
def yX3_units : MethodName := ⟨RX3, "units", "(III)J"⟩
def dkwX3_units_2 : List UInt8 := [104, 28, 96, 49, 29, 182, 1, 29, 153, 0, 10, 42, 180, 0, 181, 167, 0, 6, 20, 1, 33, 173]
abbrev dktX3_units_2 : List UInt8 := dkwX3_units_2 ++ []
def dkwX3_units_1 : List UInt8 := [28, 182, 0, 200, 181, 0, 94, 42, 180, 0, 94, 153, 0, 5, 9, 173, 42, 42, 180, 0, 17, 16, 60, 27]
abbrev dktX3_units_1 : List UInt8 := dkwX3_units_1 ++ dktX3_units_2
def dkwX3_units_0 : List UInt8 := [42, 3, 181, 0, 94, 29, 133, 9, 20, 0, 235, 184, 0, 99, 154, 0, 7, 20, 1, 21, 173, 42, 42, 27]
abbrev dktX3_units_0 : List UInt8 := dkwX3_units_0 ++ dktX3_units_1
theorem dksX3_units_0 : cX3_units.data.toList.drop 0 = dktX3_units_0 := by decide +kernel
theorem dksX3_units_1 : cX3_units.data.toList.drop 24 = dktX3_units_1 := dk_seg dksX3_units_0 24 rfl rfl
theorem dksX3_units_2 : cX3_units.data.toList.drop 48 = dktX3_units_2 := dk_seg dksX3_units_1 24 rfl rfl
theorem dX3_units_0 : decode cX3_units 0 = .ok (.aload_n 0, 1) := dk_42 (dk_at dksX3_units_0 0 rfl rfl)
theorem dX3_units_1 : decode cX3_units 1 = .ok (.iconst 0, 1) := dk_3 (dk_at dksX3_units_0 1 rfl rfl)
theorem dX3_units_2 : decode cX3_units 2 = .ok (.putfield 94, 3) := dk_181 0 94 (dk_at dksX3_units_0 2 rfl rfl)
theorem dX3_units_5 : decode cX3_units 5 = .ok (.iload_n 3, 1) := dk_29 (dk_at dksX3_units_0 5 rfl rfl)
theorem dX3_units_6 : decode cX3_units 6 = .ok (.i2l, 1) := dk_133 (dk_at dksX3_units_0 6 rfl rfl)
theorem dX3_units_7 : decode cX3_units 7 = .ok (.lconst 0, 1) := dk_9 (dk_at dksX3_units_0 7 rfl rfl)
theorem dX3_units_8 : decode cX3_units 8 = .ok (.ldc2_w 235, 3) := dk_20 0 235 (dk_at dksX3_units_0 8 rfl rfl)
theorem dX3_units_11 : decode cX3_units 11 = .ok (.invokestatic 99, 3) := dk_184 0 99 (dk_at dksX3_units_0 11 rfl rfl)
theorem dX3_units_14 : decode cX3_units 14 = .ok (.ifCond .ne 7, 3) := dk_154 0 7 (dk_at dksX3_units_0 14 rfl rfl)
theorem dX3_units_17 : decode cX3_units 17 = .ok (.ldc2_w 277, 3) := dk_20 1 21 (dk_at dksX3_units_0 17 rfl rfl)
theorem dX3_units_20 : decode cX3_units 20 = .ok (.lreturn, 1) := dk_173 (dk_at dksX3_units_0 20 rfl rfl)
theorem dX3_units_21 : decode cX3_units 21 = .ok (.aload_n 0, 1) := dk_42 (dk_at dksX3_units_0 21 rfl rfl)
theorem dX3_units_22 : decode cX3_units 22 = .ok (.aload_n 0, 1) := dk_42 (dk_at dksX3_units_0 22 rfl rfl)
theorem dX3_units_23 : decode cX3_units 23 = .ok (.iload_n 1, 1) := dk_27 (dk_at dksX3_units_0 23 rfl rfl)
theorem dX3_units_24 : decode cX3_units 24 = .ok (.iload_n 2, 1) := dk_28 (dk_at dksX3_units_1 0 rfl rfl)
theorem dX3_units_25 : decode cX3_units 25 = .ok (.invokevirtual 200, 3) := dk_182 0 200 (dk_at dksX3_units_1 1 rfl rfl)
theorem dX3_units_28 : decode cX3_units 28 = .ok (.putfield 94, 3) := dk_181 0 94 (dk_at dksX3_units_1 4 rfl rfl)
theorem dX3_units_31 : decode cX3_units 31 = .ok (.aload_n 0, 1) := dk_42 (dk_at dksX3_units_1 7 rfl rfl)
theorem dX3_units_32 : decode cX3_units 32 = .ok (.getfield 94, 3) := dk_180 0 94 (dk_at dksX3_units_1 8 rfl rfl)
theorem dX3_units_35 : decode cX3_units 35 = .ok (.ifCond .eq 5, 3) := dk_153 0 5 (dk_at dksX3_units_1 11 rfl rfl)
theorem dX3_units_38 : decode cX3_units 38 = .ok (.lconst 0, 1) := dk_9 (dk_at dksX3_units_1 14 rfl rfl)
theorem dX3_units_39 : decode cX3_units 39 = .ok (.lreturn, 1) := dk_173 (dk_at dksX3_units_1 15 rfl rfl)
theorem dX3_units_40 : decode cX3_units 40 = .ok (.aload_n 0, 1) := dk_42 (dk_at dksX3_units_1 16 rfl rfl)
theorem dX3_units_41 : decode cX3_units 41 = .ok (.aload_n 0, 1) := dk_42 (dk_at dksX3_units_1 17 rfl rfl)
theorem dX3_units_42 : decode cX3_units 42 = .ok (.getfield 17, 3) := dk_180 0 17 (dk_at dksX3_units_1 18 rfl rfl)
theorem dX3_units_45 : decode cX3_units 45 = .ok (.bipush 60, 2) := dk_16 60 (dk_at dksX3_units_1 21 rfl rfl)
theorem dX3_units_47 : decode cX3_units 47 = .ok (.iload_n 1, 1) := dk_27 (dk_at dksX3_units_1 23 rfl rfl)
theorem dX3_units_48 : decode cX3_units 48 = .ok (.imul, 1) := dk_104 (dk_at dksX3_units_2 0 rfl rfl)
theorem dX3_units_49 : decode cX3_units 49 = .ok (.iload_n 2, 1) := dk_28 (dk_at dksX3_units_2 1 rfl rfl)
theorem dX3_units_50 : decode cX3_units 50 = .ok (.iadd, 1) := dk_96 (dk_at dksX3_units_2 2 rfl rfl)
theorem dX3_units_51 : decode cX3_units 51 = .ok (.daload, 1) := dk_49 (dk_at dksX3_units_2 3 rfl rfl)
theorem dX3_units_52 : decode cX3_units 52 = .ok (.iload_n 3, 1) := dk_29 (dk_at dksX3_units_2 4 rfl rfl)
theorem dX3_units_53 : decode cX3_units 53 = .ok (.invokevirtual 285, 3) := dk_182 1 29 (dk_at dksX3_units_2 5 rfl rfl)
theorem dX3_units_56 : decode cX3_units 56 = .ok (.ifCond .eq 10, 3) := dk_153 0 10 (dk_at dksX3_units_2 8 rfl rfl)
theorem dX3_units_59 : decode cX3_units 59 = .ok (.aload_n 0, 1) := dk_42 (dk_at dksX3_units_2 11 rfl rfl)
theorem dX3_units_60 : decode cX3_units 60 = .ok (.getfield 181, 3) := dk_180 0 181 (dk_at dksX3_units_2 12 rfl rfl)
theorem dX3_units_63 : decode cX3_units 63 = .ok (.goto 6, 3) := dk_167 0 6 (dk_at dksX3_units_2 15 rfl rfl)
theorem dX3_units_66 : decode cX3_units 66 = .ok (.ldc2_w 289, 3) := dk_20 1 33 (dk_at dksX3_units_2 18 rfl rfl)
theorem dX3_units_69 : decode cX3_units 69 = .ok (.lreturn, 1) := dk_173 (dk_at dksX3_units_2 21 rfl rfl)
abbrev cX3_hasUnits : ByteArray := prog_27_method_26_code
def yX3_hasUnits : MethodName := ⟨RX3, "hasUnits", "(DI)Z"⟩
def dkwX3_hasUnits_16 : List UInt8 := [167, 0, 5, 22, 18, 181, 0, 181, 4, 172]
abbrev dktX3_hasUnits_16 : List UInt8 := dkwX3_hasUnits_16 ++ []
def dkwX3_hasUnits_15 : List UInt8 := [97, 55, 18, 22, 18, 20, 0, 191, 148, 158, 0, 5, 3, 172, 42, 39, 14, 152, 156, 0, 9, 22, 18, 117]
abbrev dktX3_hasUnits_15 : List UInt8 := dkwX3_hasUnits_15 ++ dktX3_hasUnits_16
def dkwX3_hasUnits_14 : List UInt8 := [154, 0, 19, 21, 21, 153, 0, 18, 22, 18, 20, 0, 146, 113, 10, 148, 154, 0, 7, 10, 167, 0, 4, 9]
abbrev dktX3_hasUnits_14 : List UInt8 := dkwX3_hasUnits_14 ++ dktX3_hasUnits_15
def dkwX3_hasUnits_13 : List UInt8 := [100, 121, 148, 154, 0, 14, 22, 16, 9, 148, 158, 0, 7, 4, 167, 0, 4, 3, 54, 20, 22, 18, 21, 20]
abbrev dktX3_hasUnits_13 : List UInt8 := dkwX3_hasUnits_13 ++ dktX3_hasUnits_14
def dkwX3_hasUnits_12 : List UInt8 := [167, 0, 4, 3, 54, 21, 22, 23, 10, 21, 22, 4, 100, 121, 148, 157, 0, 22, 22, 23, 10, 21, 22, 4]
abbrev dktX3_hasUnits_12 : List UInt8 := dkwX3_hasUnits_12 ++ dktX3_hasUnits_13
def dkwX3_hasUnits_11 : List UInt8 := [101, 127, 55, 23, 22, 23, 10, 21, 22, 4, 100, 121, 148, 154, 0, 14, 22, 16, 9, 148, 154, 0, 7, 4]
abbrev dktX3_hasUnits_11 : List UInt8 := dkwX3_hasUnits_11 ++ dktX3_hasUnits_12
def dkwX3_hasUnits_10 : List UInt8 := [167, 0, 92, 21, 13, 16, 30, 100, 54, 22, 22, 14, 21, 22, 123, 55, 18, 22, 14, 10, 21, 22, 121, 10]
abbrev dktX3_hasUnits_10 : List UInt8 := dkwX3_hasUnits_10 ++ dktX3_hasUnits_11
def dkwX3_hasUnits_9 : List UInt8 := [54, 20, 167, 0, 114, 21, 13, 16, 30, 100, 16, 45, 164, 0, 15, 9, 55, 18, 3, 54, 21, 3, 54, 20]
abbrev dktX3_hasUnits_9 : List UInt8 := dkwX3_hasUnits_9 ++ dktX3_hasUnits_10
def dkwX3_hasUnits_8 : List UInt8 := [167, 0, 4, 3, 54, 21, 22, 22, 10, 21, 13, 4, 100, 121, 148, 158, 0, 7, 4, 167, 0, 4, 3]
abbrev dktX3_hasUnits_8 : List UInt8 := dkwX3_hasUnits_8 ++ dktX3_hasUnits_9
def dkwX3_hasUnits_7 : List UInt8 := [22, 16, 10, 21, 13, 121, 10, 101, 127, 55, 22, 22, 22, 10, 21, 13, 4, 100, 121, 148, 154, 0, 7, 4]
abbrev dktX3_hasUnits_7 : List UInt8 := dkwX3_hasUnits_7 ++ dktX3_hasUnits_8
def dkwX3_hasUnits_6 : List UInt8 := [21, 13, 16, 30, 163, 0, 71, 22, 14, 16, 30, 21, 13, 100, 121, 22, 16, 21, 13, 123, 97, 55, 18]
abbrev dktX3_hasUnits_6 : List UInt8 := dkwX3_hasUnits_6 ++ dktX3_hasUnits_7
def dkwX3_hasUnits_5 : List UInt8 := [22, 6, 105, 55, 16, 22, 14, 22, 16, 16, 30, 123, 97, 55, 14, 22, 16, 20, 0, 189, 127, 55, 16]
abbrev dktX3_hasUnits_5 : List UInt8 := dkwX3_hasUnits_5 ++ dktX3_hasUnits_6
def dkwX3_hasUnits_4 : List UInt8 := [167, 0, 4, 4, 100, 54, 13, 22, 11, 16, 30, 123, 22, 6, 105, 55, 14, 22, 11, 20, 0, 189, 127]
abbrev dktX3_hasUnits_4 : List UInt8 := dkwX3_hasUnits_4 ++ dktX3_hasUnits_5
def dkwX3_hasUnits_3 : List UInt8 := [22, 11, 20, 0, 123, 97, 167, 0, 5, 22, 11, 55, 11, 17, 4, 51, 21, 10, 158, 0, 8, 21, 10]
abbrev dktX3_hasUnits_3 : List UInt8 := dkwX3_hasUnits_3 ++ dktX3_hasUnits_4
def dkwX3_hasUnits_2 : List UInt8 := [55, 8, 22, 8, 16, 52, 123, 136, 54, 10, 22, 8, 20, 0, 121, 127, 55, 11, 21, 10, 158, 0, 12]
abbrev dktX3_hasUnits_2 : List UInt8 := dkwX3_hasUnits_2 ++ dktX3_hasUnits_3
def dkwX3_hasUnits_1 : List UInt8 := [156, 0, 16, 24, 4, 22, 6, 138, 107, 20, 0, 187, 151, 158, 0, 5, 3, 172, 24, 4, 184, 0, 113]
abbrev dktX3_hasUnits_1 : List UInt8 := dkwX3_hasUnits_1 ++ dktX3_hasUnits_2
def dkwX3_hasUnits_0 : List UInt8 := [39, 184, 0, 173, 57, 4, 29, 184, 0, 177, 55, 6, 42, 9, 181, 0, 181, 24, 4, 20, 0, 185, 152]
abbrev dktX3_hasUnits_0 : List UInt8 := dkwX3_hasUnits_0 ++ dktX3_hasUnits_1
theorem dksX3_hasUnits_0 : cX3_hasUnits.data.toList.drop 0 = dktX3_hasUnits_0 := by decide +kernel
theorem dksX3_hasUnits_1 : cX3_hasUnits.data.toList.drop 23 = dktX3_hasUnits_1 := dk_seg dksX3_hasUnits_0 23 rfl rfl
theorem dksX3_hasUnits_2 : cX3_hasUnits.data.toList.drop 46 = dktX3_hasUnits_2 := dk_seg dksX3_hasUnits_1 23 rfl rfl
theorem dksX3_hasUnits_3 : cX3_hasUnits.data.toList.drop 69 = dktX3_hasUnits_3 := dk_seg dksX3_hasUnits_2 23 rfl rfl
theorem dksX3_hasUnits_4 : cX3_hasUnits.data.toList.drop 92 = dktX3_hasUnits_4 := dk_seg dksX3_hasUnits_3 23 rfl rfl
theorem dksX3_hasUnits_5 : cX3_hasUnits.data.toList.drop 115 = dktX3_hasUnits_5 := dk_seg dksX3_hasUnits_4 23 rfl rfl
theorem dksX3_hasUnits_6 : cX3_hasUnits.data.toList.drop 138 = dktX3_hasUnits_6 := dk_seg dksX3_hasUnits_5 23 rfl rfl
theorem dksX3_hasUnits_7 : cX3_hasUnits.data.toList.drop 161 = dktX3_hasUnits_7 := dk_seg dksX3_hasUnits_6 23 rfl rfl
theorem dksX3_hasUnits_8 : cX3_hasUnits.data.toList.drop 185 = dktX3_hasUnits_8 := dk_seg dksX3_hasUnits_7 24 rfl rfl
theorem dksX3_hasUnits_9 : cX3_hasUnits.data.toList.drop 208 = dktX3_hasUnits_9 := dk_seg dksX3_hasUnits_8 23 rfl rfl
theorem dksX3_hasUnits_10 : cX3_hasUnits.data.toList.drop 232 = dktX3_hasUnits_10 := dk_seg dksX3_hasUnits_9 24 rfl rfl
theorem dksX3_hasUnits_11 : cX3_hasUnits.data.toList.drop 256 = dktX3_hasUnits_11 := dk_seg dksX3_hasUnits_10 24 rfl rfl
theorem dksX3_hasUnits_12 : cX3_hasUnits.data.toList.drop 280 = dktX3_hasUnits_12 := dk_seg dksX3_hasUnits_11 24 rfl rfl
theorem dksX3_hasUnits_13 : cX3_hasUnits.data.toList.drop 304 = dktX3_hasUnits_13 := dk_seg dksX3_hasUnits_12 24 rfl rfl
theorem dksX3_hasUnits_14 : cX3_hasUnits.data.toList.drop 328 = dktX3_hasUnits_14 := dk_seg dksX3_hasUnits_13 24 rfl rfl
theorem dksX3_hasUnits_15 : cX3_hasUnits.data.toList.drop 352 = dktX3_hasUnits_15 := dk_seg dksX3_hasUnits_14 24 rfl rfl
theorem dksX3_hasUnits_16 : cX3_hasUnits.data.toList.drop 376 = dktX3_hasUnits_16 := dk_seg dksX3_hasUnits_15 24 rfl rfl
theorem dX3_hasUnits_0 : decode cX3_hasUnits 0 = .ok (.dload_n 1, 1) := dk_39 (dk_at dksX3_hasUnits_0 0 rfl rfl)
theorem dX3_hasUnits_1 : decode cX3_hasUnits 1 = .ok (.invokestatic 173, 3) := dk_184 0 173 (dk_at dksX3_hasUnits_0 1 rfl rfl)
theorem dX3_hasUnits_4 : decode cX3_hasUnits 4 = .ok (.dstore 4, 2) := dk_57 4 (dk_at dksX3_hasUnits_0 4 rfl rfl)
theorem dX3_hasUnits_6 : decode cX3_hasUnits 6 = .ok (.iload_n 3, 1) := dk_29 (dk_at dksX3_hasUnits_0 6 rfl rfl)
theorem dX3_hasUnits_7 : decode cX3_hasUnits 7 = .ok (.invokestatic 177, 3) := dk_184 0 177 (dk_at dksX3_hasUnits_0 7 rfl rfl)
theorem dX3_hasUnits_10 : decode cX3_hasUnits 10 = .ok (.lstore 6, 2) := dk_55 6 (dk_at dksX3_hasUnits_0 10 rfl rfl)
theorem dX3_hasUnits_12 : decode cX3_hasUnits 12 = .ok (.aload_n 0, 1) := dk_42 (dk_at dksX3_hasUnits_0 12 rfl rfl)
theorem dX3_hasUnits_13 : decode cX3_hasUnits 13 = .ok (.lconst 0, 1) := dk_9 (dk_at dksX3_hasUnits_0 13 rfl rfl)
theorem dX3_hasUnits_14 : decode cX3_hasUnits 14 = .ok (.putfield 181, 3) := dk_181 0 181 (dk_at dksX3_hasUnits_0 14 rfl rfl)
theorem dX3_hasUnits_17 : decode cX3_hasUnits 17 = .ok (.dload 4, 2) := dk_24 4 (dk_at dksX3_hasUnits_0 17 rfl rfl)
theorem dX3_hasUnits_19 : decode cX3_hasUnits 19 = .ok (.ldc2_w 185, 3) := dk_20 0 185 (dk_at dksX3_hasUnits_0 19 rfl rfl)
theorem dX3_hasUnits_22 : decode cX3_hasUnits 22 = .ok (.dcmp .g, 1) := dk_152 (dk_at dksX3_hasUnits_0 22 rfl rfl)
theorem dX3_hasUnits_23 : decode cX3_hasUnits 23 = .ok (.ifCond .ge 16, 3) := dk_156 0 16 (dk_at dksX3_hasUnits_1 0 rfl rfl)
theorem dX3_hasUnits_26 : decode cX3_hasUnits 26 = .ok (.dload 4, 2) := dk_24 4 (dk_at dksX3_hasUnits_1 3 rfl rfl)
theorem dX3_hasUnits_28 : decode cX3_hasUnits 28 = .ok (.lload 6, 2) := dk_22 6 (dk_at dksX3_hasUnits_1 5 rfl rfl)
theorem dX3_hasUnits_30 : decode cX3_hasUnits 30 = .ok (.l2d, 1) := dk_138 (dk_at dksX3_hasUnits_1 7 rfl rfl)
theorem dX3_hasUnits_31 : decode cX3_hasUnits 31 = .ok (.dmul, 1) := dk_107 (dk_at dksX3_hasUnits_1 8 rfl rfl)
theorem dX3_hasUnits_32 : decode cX3_hasUnits 32 = .ok (.ldc2_w 187, 3) := dk_20 0 187 (dk_at dksX3_hasUnits_1 9 rfl rfl)
theorem dX3_hasUnits_35 : decode cX3_hasUnits 35 = .ok (.dcmp .l, 1) := dk_151 (dk_at dksX3_hasUnits_1 12 rfl rfl)
theorem dX3_hasUnits_36 : decode cX3_hasUnits 36 = .ok (.ifCond .le 5, 3) := dk_158 0 5 (dk_at dksX3_hasUnits_1 13 rfl rfl)
theorem dX3_hasUnits_39 : decode cX3_hasUnits 39 = .ok (.iconst 0, 1) := dk_3 (dk_at dksX3_hasUnits_1 16 rfl rfl)
theorem dX3_hasUnits_40 : decode cX3_hasUnits 40 = .ok (.ireturn, 1) := dk_172 (dk_at dksX3_hasUnits_1 17 rfl rfl)
theorem dX3_hasUnits_41 : decode cX3_hasUnits 41 = .ok (.dload 4, 2) := dk_24 4 (dk_at dksX3_hasUnits_1 18 rfl rfl)
theorem dX3_hasUnits_43 : decode cX3_hasUnits 43 = .ok (.invokestatic 113, 3) := dk_184 0 113 (dk_at dksX3_hasUnits_1 20 rfl rfl)
theorem dX3_hasUnits_46 : decode cX3_hasUnits 46 = .ok (.lstore 8, 2) := dk_55 8 (dk_at dksX3_hasUnits_2 0 rfl rfl)
theorem dX3_hasUnits_48 : decode cX3_hasUnits 48 = .ok (.lload 8, 2) := dk_22 8 (dk_at dksX3_hasUnits_2 2 rfl rfl)
theorem dX3_hasUnits_50 : decode cX3_hasUnits 50 = .ok (.bipush 52, 2) := dk_16 52 (dk_at dksX3_hasUnits_2 4 rfl rfl)
theorem dX3_hasUnits_52 : decode cX3_hasUnits 52 = .ok (.lshr, 1) := dk_123 (dk_at dksX3_hasUnits_2 6 rfl rfl)
theorem dX3_hasUnits_53 : decode cX3_hasUnits 53 = .ok (.l2i, 1) := dk_136 (dk_at dksX3_hasUnits_2 7 rfl rfl)
theorem dX3_hasUnits_54 : decode cX3_hasUnits 54 = .ok (.istore 10, 2) := dk_54 10 (dk_at dksX3_hasUnits_2 8 rfl rfl)
theorem dX3_hasUnits_56 : decode cX3_hasUnits 56 = .ok (.lload 8, 2) := dk_22 8 (dk_at dksX3_hasUnits_2 10 rfl rfl)
theorem dX3_hasUnits_58 : decode cX3_hasUnits 58 = .ok (.ldc2_w 121, 3) := dk_20 0 121 (dk_at dksX3_hasUnits_2 12 rfl rfl)
theorem dX3_hasUnits_61 : decode cX3_hasUnits 61 = .ok (.land, 1) := dk_127 (dk_at dksX3_hasUnits_2 15 rfl rfl)
theorem dX3_hasUnits_62 : decode cX3_hasUnits 62 = .ok (.lstore 11, 2) := dk_55 11 (dk_at dksX3_hasUnits_2 16 rfl rfl)
theorem dX3_hasUnits_64 : decode cX3_hasUnits 64 = .ok (.iload 10, 2) := dk_21 10 (dk_at dksX3_hasUnits_2 18 rfl rfl)
theorem dX3_hasUnits_66 : decode cX3_hasUnits 66 = .ok (.ifCond .le 12, 3) := dk_158 0 12 (dk_at dksX3_hasUnits_2 20 rfl rfl)
theorem dX3_hasUnits_69 : decode cX3_hasUnits 69 = .ok (.lload 11, 2) := dk_22 11 (dk_at dksX3_hasUnits_3 0 rfl rfl)
theorem dX3_hasUnits_71 : decode cX3_hasUnits 71 = .ok (.ldc2_w 123, 3) := dk_20 0 123 (dk_at dksX3_hasUnits_3 2 rfl rfl)
theorem dX3_hasUnits_74 : decode cX3_hasUnits 74 = .ok (.ladd, 1) := dk_97 (dk_at dksX3_hasUnits_3 5 rfl rfl)
theorem dX3_hasUnits_75 : decode cX3_hasUnits 75 = .ok (.goto 5, 3) := dk_167 0 5 (dk_at dksX3_hasUnits_3 6 rfl rfl)
theorem dX3_hasUnits_78 : decode cX3_hasUnits 78 = .ok (.lload 11, 2) := dk_22 11 (dk_at dksX3_hasUnits_3 9 rfl rfl)
theorem dX3_hasUnits_80 : decode cX3_hasUnits 80 = .ok (.lstore 11, 2) := dk_55 11 (dk_at dksX3_hasUnits_3 11 rfl rfl)
theorem dX3_hasUnits_82 : decode cX3_hasUnits 82 = .ok (.sipush 1075, 3) := dk_17 4 51 (dk_at dksX3_hasUnits_3 13 rfl rfl)
theorem dX3_hasUnits_85 : decode cX3_hasUnits 85 = .ok (.iload 10, 2) := dk_21 10 (dk_at dksX3_hasUnits_3 16 rfl rfl)
theorem dX3_hasUnits_87 : decode cX3_hasUnits 87 = .ok (.ifCond .le 8, 3) := dk_158 0 8 (dk_at dksX3_hasUnits_3 18 rfl rfl)
theorem dX3_hasUnits_90 : decode cX3_hasUnits 90 = .ok (.iload 10, 2) := dk_21 10 (dk_at dksX3_hasUnits_3 21 rfl rfl)
theorem dX3_hasUnits_92 : decode cX3_hasUnits 92 = .ok (.goto 4, 3) := dk_167 0 4 (dk_at dksX3_hasUnits_4 0 rfl rfl)
theorem dX3_hasUnits_95 : decode cX3_hasUnits 95 = .ok (.iconst 1, 1) := dk_4 (dk_at dksX3_hasUnits_4 3 rfl rfl)
theorem dX3_hasUnits_96 : decode cX3_hasUnits 96 = .ok (.isub, 1) := dk_100 (dk_at dksX3_hasUnits_4 4 rfl rfl)
theorem dX3_hasUnits_97 : decode cX3_hasUnits 97 = .ok (.istore 13, 2) := dk_54 13 (dk_at dksX3_hasUnits_4 5 rfl rfl)
theorem dX3_hasUnits_99 : decode cX3_hasUnits 99 = .ok (.lload 11, 2) := dk_22 11 (dk_at dksX3_hasUnits_4 7 rfl rfl)
theorem dX3_hasUnits_101 : decode cX3_hasUnits 101 = .ok (.bipush 30, 2) := dk_16 30 (dk_at dksX3_hasUnits_4 9 rfl rfl)
theorem dX3_hasUnits_103 : decode cX3_hasUnits 103 = .ok (.lshr, 1) := dk_123 (dk_at dksX3_hasUnits_4 11 rfl rfl)
theorem dX3_hasUnits_104 : decode cX3_hasUnits 104 = .ok (.lload 6, 2) := dk_22 6 (dk_at dksX3_hasUnits_4 12 rfl rfl)
theorem dX3_hasUnits_106 : decode cX3_hasUnits 106 = .ok (.lmul, 1) := dk_105 (dk_at dksX3_hasUnits_4 14 rfl rfl)
theorem dX3_hasUnits_107 : decode cX3_hasUnits 107 = .ok (.lstore 14, 2) := dk_55 14 (dk_at dksX3_hasUnits_4 15 rfl rfl)
theorem dX3_hasUnits_109 : decode cX3_hasUnits 109 = .ok (.lload 11, 2) := dk_22 11 (dk_at dksX3_hasUnits_4 17 rfl rfl)
theorem dX3_hasUnits_111 : decode cX3_hasUnits 111 = .ok (.ldc2_w 189, 3) := dk_20 0 189 (dk_at dksX3_hasUnits_4 19 rfl rfl)
theorem dX3_hasUnits_114 : decode cX3_hasUnits 114 = .ok (.land, 1) := dk_127 (dk_at dksX3_hasUnits_4 22 rfl rfl)
theorem dX3_hasUnits_115 : decode cX3_hasUnits 115 = .ok (.lload 6, 2) := dk_22 6 (dk_at dksX3_hasUnits_5 0 rfl rfl)
theorem dX3_hasUnits_117 : decode cX3_hasUnits 117 = .ok (.lmul, 1) := dk_105 (dk_at dksX3_hasUnits_5 2 rfl rfl)
theorem dX3_hasUnits_118 : decode cX3_hasUnits 118 = .ok (.lstore 16, 2) := dk_55 16 (dk_at dksX3_hasUnits_5 3 rfl rfl)
theorem dX3_hasUnits_120 : decode cX3_hasUnits 120 = .ok (.lload 14, 2) := dk_22 14 (dk_at dksX3_hasUnits_5 5 rfl rfl)
theorem dX3_hasUnits_122 : decode cX3_hasUnits 122 = .ok (.lload 16, 2) := dk_22 16 (dk_at dksX3_hasUnits_5 7 rfl rfl)
theorem dX3_hasUnits_124 : decode cX3_hasUnits 124 = .ok (.bipush 30, 2) := dk_16 30 (dk_at dksX3_hasUnits_5 9 rfl rfl)
theorem dX3_hasUnits_126 : decode cX3_hasUnits 126 = .ok (.lshr, 1) := dk_123 (dk_at dksX3_hasUnits_5 11 rfl rfl)
theorem dX3_hasUnits_127 : decode cX3_hasUnits 127 = .ok (.ladd, 1) := dk_97 (dk_at dksX3_hasUnits_5 12 rfl rfl)
theorem dX3_hasUnits_128 : decode cX3_hasUnits 128 = .ok (.lstore 14, 2) := dk_55 14 (dk_at dksX3_hasUnits_5 13 rfl rfl)
theorem dX3_hasUnits_130 : decode cX3_hasUnits 130 = .ok (.lload 16, 2) := dk_22 16 (dk_at dksX3_hasUnits_5 15 rfl rfl)
theorem dX3_hasUnits_132 : decode cX3_hasUnits 132 = .ok (.ldc2_w 189, 3) := dk_20 0 189 (dk_at dksX3_hasUnits_5 17 rfl rfl)
theorem dX3_hasUnits_135 : decode cX3_hasUnits 135 = .ok (.land, 1) := dk_127 (dk_at dksX3_hasUnits_5 20 rfl rfl)
theorem dX3_hasUnits_136 : decode cX3_hasUnits 136 = .ok (.lstore 16, 2) := dk_55 16 (dk_at dksX3_hasUnits_5 21 rfl rfl)
theorem dX3_hasUnits_138 : decode cX3_hasUnits 138 = .ok (.iload 13, 2) := dk_21 13 (dk_at dksX3_hasUnits_6 0 rfl rfl)
theorem dX3_hasUnits_140 : decode cX3_hasUnits 140 = .ok (.bipush 30, 2) := dk_16 30 (dk_at dksX3_hasUnits_6 2 rfl rfl)
theorem dX3_hasUnits_142 : decode cX3_hasUnits 142 = .ok (.if_icmp .gt 71, 3) := dk_163 0 71 (dk_at dksX3_hasUnits_6 4 rfl rfl)
theorem dX3_hasUnits_145 : decode cX3_hasUnits 145 = .ok (.lload 14, 2) := dk_22 14 (dk_at dksX3_hasUnits_6 7 rfl rfl)
theorem dX3_hasUnits_147 : decode cX3_hasUnits 147 = .ok (.bipush 30, 2) := dk_16 30 (dk_at dksX3_hasUnits_6 9 rfl rfl)
theorem dX3_hasUnits_149 : decode cX3_hasUnits 149 = .ok (.iload 13, 2) := dk_21 13 (dk_at dksX3_hasUnits_6 11 rfl rfl)
theorem dX3_hasUnits_151 : decode cX3_hasUnits 151 = .ok (.isub, 1) := dk_100 (dk_at dksX3_hasUnits_6 13 rfl rfl)
theorem dX3_hasUnits_152 : decode cX3_hasUnits 152 = .ok (.lshl, 1) := dk_121 (dk_at dksX3_hasUnits_6 14 rfl rfl)
theorem dX3_hasUnits_153 : decode cX3_hasUnits 153 = .ok (.lload 16, 2) := dk_22 16 (dk_at dksX3_hasUnits_6 15 rfl rfl)
theorem dX3_hasUnits_155 : decode cX3_hasUnits 155 = .ok (.iload 13, 2) := dk_21 13 (dk_at dksX3_hasUnits_6 17 rfl rfl)
theorem dX3_hasUnits_157 : decode cX3_hasUnits 157 = .ok (.lshr, 1) := dk_123 (dk_at dksX3_hasUnits_6 19 rfl rfl)
theorem dX3_hasUnits_158 : decode cX3_hasUnits 158 = .ok (.ladd, 1) := dk_97 (dk_at dksX3_hasUnits_6 20 rfl rfl)
theorem dX3_hasUnits_159 : decode cX3_hasUnits 159 = .ok (.lstore 18, 2) := dk_55 18 (dk_at dksX3_hasUnits_6 21 rfl rfl)
theorem dX3_hasUnits_161 : decode cX3_hasUnits 161 = .ok (.lload 16, 2) := dk_22 16 (dk_at dksX3_hasUnits_7 0 rfl rfl)
theorem dX3_hasUnits_163 : decode cX3_hasUnits 163 = .ok (.lconst 1, 1) := dk_10 (dk_at dksX3_hasUnits_7 2 rfl rfl)
theorem dX3_hasUnits_164 : decode cX3_hasUnits 164 = .ok (.iload 13, 2) := dk_21 13 (dk_at dksX3_hasUnits_7 3 rfl rfl)
theorem dX3_hasUnits_166 : decode cX3_hasUnits 166 = .ok (.lshl, 1) := dk_121 (dk_at dksX3_hasUnits_7 5 rfl rfl)
theorem dX3_hasUnits_167 : decode cX3_hasUnits 167 = .ok (.lconst 1, 1) := dk_10 (dk_at dksX3_hasUnits_7 6 rfl rfl)
theorem dX3_hasUnits_168 : decode cX3_hasUnits 168 = .ok (.lsub, 1) := dk_101 (dk_at dksX3_hasUnits_7 7 rfl rfl)
theorem dX3_hasUnits_169 : decode cX3_hasUnits 169 = .ok (.land, 1) := dk_127 (dk_at dksX3_hasUnits_7 8 rfl rfl)
theorem dX3_hasUnits_170 : decode cX3_hasUnits 170 = .ok (.lstore 22, 2) := dk_55 22 (dk_at dksX3_hasUnits_7 9 rfl rfl)
theorem dX3_hasUnits_172 : decode cX3_hasUnits 172 = .ok (.lload 22, 2) := dk_22 22 (dk_at dksX3_hasUnits_7 11 rfl rfl)
theorem dX3_hasUnits_174 : decode cX3_hasUnits 174 = .ok (.lconst 1, 1) := dk_10 (dk_at dksX3_hasUnits_7 13 rfl rfl)
theorem dX3_hasUnits_175 : decode cX3_hasUnits 175 = .ok (.iload 13, 2) := dk_21 13 (dk_at dksX3_hasUnits_7 14 rfl rfl)
theorem dX3_hasUnits_177 : decode cX3_hasUnits 177 = .ok (.iconst 1, 1) := dk_4 (dk_at dksX3_hasUnits_7 16 rfl rfl)
theorem dX3_hasUnits_178 : decode cX3_hasUnits 178 = .ok (.isub, 1) := dk_100 (dk_at dksX3_hasUnits_7 17 rfl rfl)
theorem dX3_hasUnits_179 : decode cX3_hasUnits 179 = .ok (.lshl, 1) := dk_121 (dk_at dksX3_hasUnits_7 18 rfl rfl)
theorem dX3_hasUnits_180 : decode cX3_hasUnits 180 = .ok (.lcmp, 1) := dk_148 (dk_at dksX3_hasUnits_7 19 rfl rfl)
theorem dX3_hasUnits_181 : decode cX3_hasUnits 181 = .ok (.ifCond .ne 7, 3) := dk_154 0 7 (dk_at dksX3_hasUnits_7 20 rfl rfl)
theorem dX3_hasUnits_184 : decode cX3_hasUnits 184 = .ok (.iconst 1, 1) := dk_4 (dk_at dksX3_hasUnits_7 23 rfl rfl)
theorem dX3_hasUnits_185 : decode cX3_hasUnits 185 = .ok (.goto 4, 3) := dk_167 0 4 (dk_at dksX3_hasUnits_8 0 rfl rfl)
theorem dX3_hasUnits_188 : decode cX3_hasUnits 188 = .ok (.iconst 0, 1) := dk_3 (dk_at dksX3_hasUnits_8 3 rfl rfl)
theorem dX3_hasUnits_189 : decode cX3_hasUnits 189 = .ok (.istore 21, 2) := dk_54 21 (dk_at dksX3_hasUnits_8 4 rfl rfl)
theorem dX3_hasUnits_191 : decode cX3_hasUnits 191 = .ok (.lload 22, 2) := dk_22 22 (dk_at dksX3_hasUnits_8 6 rfl rfl)
theorem dX3_hasUnits_193 : decode cX3_hasUnits 193 = .ok (.lconst 1, 1) := dk_10 (dk_at dksX3_hasUnits_8 8 rfl rfl)
theorem dX3_hasUnits_194 : decode cX3_hasUnits 194 = .ok (.iload 13, 2) := dk_21 13 (dk_at dksX3_hasUnits_8 9 rfl rfl)
theorem dX3_hasUnits_196 : decode cX3_hasUnits 196 = .ok (.iconst 1, 1) := dk_4 (dk_at dksX3_hasUnits_8 11 rfl rfl)
theorem dX3_hasUnits_197 : decode cX3_hasUnits 197 = .ok (.isub, 1) := dk_100 (dk_at dksX3_hasUnits_8 12 rfl rfl)
theorem dX3_hasUnits_198 : decode cX3_hasUnits 198 = .ok (.lshl, 1) := dk_121 (dk_at dksX3_hasUnits_8 13 rfl rfl)
theorem dX3_hasUnits_199 : decode cX3_hasUnits 199 = .ok (.lcmp, 1) := dk_148 (dk_at dksX3_hasUnits_8 14 rfl rfl)
theorem dX3_hasUnits_200 : decode cX3_hasUnits 200 = .ok (.ifCond .le 7, 3) := dk_158 0 7 (dk_at dksX3_hasUnits_8 15 rfl rfl)
theorem dX3_hasUnits_203 : decode cX3_hasUnits 203 = .ok (.iconst 1, 1) := dk_4 (dk_at dksX3_hasUnits_8 18 rfl rfl)
theorem dX3_hasUnits_204 : decode cX3_hasUnits 204 = .ok (.goto 4, 3) := dk_167 0 4 (dk_at dksX3_hasUnits_8 19 rfl rfl)
theorem dX3_hasUnits_207 : decode cX3_hasUnits 207 = .ok (.iconst 0, 1) := dk_3 (dk_at dksX3_hasUnits_8 22 rfl rfl)
theorem dX3_hasUnits_208 : decode cX3_hasUnits 208 = .ok (.istore 20, 2) := dk_54 20 (dk_at dksX3_hasUnits_9 0 rfl rfl)
theorem dX3_hasUnits_210 : decode cX3_hasUnits 210 = .ok (.goto 114, 3) := dk_167 0 114 (dk_at dksX3_hasUnits_9 2 rfl rfl)
theorem dX3_hasUnits_213 : decode cX3_hasUnits 213 = .ok (.iload 13, 2) := dk_21 13 (dk_at dksX3_hasUnits_9 5 rfl rfl)
theorem dX3_hasUnits_215 : decode cX3_hasUnits 215 = .ok (.bipush 30, 2) := dk_16 30 (dk_at dksX3_hasUnits_9 7 rfl rfl)
theorem dX3_hasUnits_217 : decode cX3_hasUnits 217 = .ok (.isub, 1) := dk_100 (dk_at dksX3_hasUnits_9 9 rfl rfl)
theorem dX3_hasUnits_218 : decode cX3_hasUnits 218 = .ok (.bipush 45, 2) := dk_16 45 (dk_at dksX3_hasUnits_9 10 rfl rfl)
theorem dX3_hasUnits_220 : decode cX3_hasUnits 220 = .ok (.if_icmp .le 15, 3) := dk_164 0 15 (dk_at dksX3_hasUnits_9 12 rfl rfl)
theorem dX3_hasUnits_223 : decode cX3_hasUnits 223 = .ok (.lconst 0, 1) := dk_9 (dk_at dksX3_hasUnits_9 15 rfl rfl)
theorem dX3_hasUnits_224 : decode cX3_hasUnits 224 = .ok (.lstore 18, 2) := dk_55 18 (dk_at dksX3_hasUnits_9 16 rfl rfl)
theorem dX3_hasUnits_226 : decode cX3_hasUnits 226 = .ok (.iconst 0, 1) := dk_3 (dk_at dksX3_hasUnits_9 18 rfl rfl)
theorem dX3_hasUnits_227 : decode cX3_hasUnits 227 = .ok (.istore 21, 2) := dk_54 21 (dk_at dksX3_hasUnits_9 19 rfl rfl)
theorem dX3_hasUnits_229 : decode cX3_hasUnits 229 = .ok (.iconst 0, 1) := dk_3 (dk_at dksX3_hasUnits_9 21 rfl rfl)
theorem dX3_hasUnits_230 : decode cX3_hasUnits 230 = .ok (.istore 20, 2) := dk_54 20 (dk_at dksX3_hasUnits_9 22 rfl rfl)
theorem dX3_hasUnits_232 : decode cX3_hasUnits 232 = .ok (.goto 92, 3) := dk_167 0 92 (dk_at dksX3_hasUnits_10 0 rfl rfl)
theorem dX3_hasUnits_235 : decode cX3_hasUnits 235 = .ok (.iload 13, 2) := dk_21 13 (dk_at dksX3_hasUnits_10 3 rfl rfl)
theorem dX3_hasUnits_237 : decode cX3_hasUnits 237 = .ok (.bipush 30, 2) := dk_16 30 (dk_at dksX3_hasUnits_10 5 rfl rfl)
theorem dX3_hasUnits_239 : decode cX3_hasUnits 239 = .ok (.isub, 1) := dk_100 (dk_at dksX3_hasUnits_10 7 rfl rfl)
theorem dX3_hasUnits_240 : decode cX3_hasUnits 240 = .ok (.istore 22, 2) := dk_54 22 (dk_at dksX3_hasUnits_10 8 rfl rfl)
theorem dX3_hasUnits_242 : decode cX3_hasUnits 242 = .ok (.lload 14, 2) := dk_22 14 (dk_at dksX3_hasUnits_10 10 rfl rfl)
theorem dX3_hasUnits_244 : decode cX3_hasUnits 244 = .ok (.iload 22, 2) := dk_21 22 (dk_at dksX3_hasUnits_10 12 rfl rfl)
theorem dX3_hasUnits_246 : decode cX3_hasUnits 246 = .ok (.lshr, 1) := dk_123 (dk_at dksX3_hasUnits_10 14 rfl rfl)
theorem dX3_hasUnits_247 : decode cX3_hasUnits 247 = .ok (.lstore 18, 2) := dk_55 18 (dk_at dksX3_hasUnits_10 15 rfl rfl)
theorem dX3_hasUnits_249 : decode cX3_hasUnits 249 = .ok (.lload 14, 2) := dk_22 14 (dk_at dksX3_hasUnits_10 17 rfl rfl)
theorem dX3_hasUnits_251 : decode cX3_hasUnits 251 = .ok (.lconst 1, 1) := dk_10 (dk_at dksX3_hasUnits_10 19 rfl rfl)
theorem dX3_hasUnits_252 : decode cX3_hasUnits 252 = .ok (.iload 22, 2) := dk_21 22 (dk_at dksX3_hasUnits_10 20 rfl rfl)
theorem dX3_hasUnits_254 : decode cX3_hasUnits 254 = .ok (.lshl, 1) := dk_121 (dk_at dksX3_hasUnits_10 22 rfl rfl)
theorem dX3_hasUnits_255 : decode cX3_hasUnits 255 = .ok (.lconst 1, 1) := dk_10 (dk_at dksX3_hasUnits_10 23 rfl rfl)
theorem dX3_hasUnits_256 : decode cX3_hasUnits 256 = .ok (.lsub, 1) := dk_101 (dk_at dksX3_hasUnits_11 0 rfl rfl)
theorem dX3_hasUnits_257 : decode cX3_hasUnits 257 = .ok (.land, 1) := dk_127 (dk_at dksX3_hasUnits_11 1 rfl rfl)
theorem dX3_hasUnits_258 : decode cX3_hasUnits 258 = .ok (.lstore 23, 2) := dk_55 23 (dk_at dksX3_hasUnits_11 2 rfl rfl)
theorem dX3_hasUnits_260 : decode cX3_hasUnits 260 = .ok (.lload 23, 2) := dk_22 23 (dk_at dksX3_hasUnits_11 4 rfl rfl)
theorem dX3_hasUnits_262 : decode cX3_hasUnits 262 = .ok (.lconst 1, 1) := dk_10 (dk_at dksX3_hasUnits_11 6 rfl rfl)
theorem dX3_hasUnits_263 : decode cX3_hasUnits 263 = .ok (.iload 22, 2) := dk_21 22 (dk_at dksX3_hasUnits_11 7 rfl rfl)
theorem dX3_hasUnits_265 : decode cX3_hasUnits 265 = .ok (.iconst 1, 1) := dk_4 (dk_at dksX3_hasUnits_11 9 rfl rfl)
theorem dX3_hasUnits_266 : decode cX3_hasUnits 266 = .ok (.isub, 1) := dk_100 (dk_at dksX3_hasUnits_11 10 rfl rfl)
theorem dX3_hasUnits_267 : decode cX3_hasUnits 267 = .ok (.lshl, 1) := dk_121 (dk_at dksX3_hasUnits_11 11 rfl rfl)
theorem dX3_hasUnits_268 : decode cX3_hasUnits 268 = .ok (.lcmp, 1) := dk_148 (dk_at dksX3_hasUnits_11 12 rfl rfl)
theorem dX3_hasUnits_269 : decode cX3_hasUnits 269 = .ok (.ifCond .ne 14, 3) := dk_154 0 14 (dk_at dksX3_hasUnits_11 13 rfl rfl)
theorem dX3_hasUnits_272 : decode cX3_hasUnits 272 = .ok (.lload 16, 2) := dk_22 16 (dk_at dksX3_hasUnits_11 16 rfl rfl)
theorem dX3_hasUnits_274 : decode cX3_hasUnits 274 = .ok (.lconst 0, 1) := dk_9 (dk_at dksX3_hasUnits_11 18 rfl rfl)
theorem dX3_hasUnits_275 : decode cX3_hasUnits 275 = .ok (.lcmp, 1) := dk_148 (dk_at dksX3_hasUnits_11 19 rfl rfl)
theorem dX3_hasUnits_276 : decode cX3_hasUnits 276 = .ok (.ifCond .ne 7, 3) := dk_154 0 7 (dk_at dksX3_hasUnits_11 20 rfl rfl)
theorem dX3_hasUnits_279 : decode cX3_hasUnits 279 = .ok (.iconst 1, 1) := dk_4 (dk_at dksX3_hasUnits_11 23 rfl rfl)
theorem dX3_hasUnits_280 : decode cX3_hasUnits 280 = .ok (.goto 4, 3) := dk_167 0 4 (dk_at dksX3_hasUnits_12 0 rfl rfl)
theorem dX3_hasUnits_283 : decode cX3_hasUnits 283 = .ok (.iconst 0, 1) := dk_3 (dk_at dksX3_hasUnits_12 3 rfl rfl)
theorem dX3_hasUnits_284 : decode cX3_hasUnits 284 = .ok (.istore 21, 2) := dk_54 21 (dk_at dksX3_hasUnits_12 4 rfl rfl)
theorem dX3_hasUnits_286 : decode cX3_hasUnits 286 = .ok (.lload 23, 2) := dk_22 23 (dk_at dksX3_hasUnits_12 6 rfl rfl)
theorem dX3_hasUnits_288 : decode cX3_hasUnits 288 = .ok (.lconst 1, 1) := dk_10 (dk_at dksX3_hasUnits_12 8 rfl rfl)
theorem dX3_hasUnits_289 : decode cX3_hasUnits 289 = .ok (.iload 22, 2) := dk_21 22 (dk_at dksX3_hasUnits_12 9 rfl rfl)
theorem dX3_hasUnits_291 : decode cX3_hasUnits 291 = .ok (.iconst 1, 1) := dk_4 (dk_at dksX3_hasUnits_12 11 rfl rfl)
theorem dX3_hasUnits_292 : decode cX3_hasUnits 292 = .ok (.isub, 1) := dk_100 (dk_at dksX3_hasUnits_12 12 rfl rfl)
theorem dX3_hasUnits_293 : decode cX3_hasUnits 293 = .ok (.lshl, 1) := dk_121 (dk_at dksX3_hasUnits_12 13 rfl rfl)
theorem dX3_hasUnits_294 : decode cX3_hasUnits 294 = .ok (.lcmp, 1) := dk_148 (dk_at dksX3_hasUnits_12 14 rfl rfl)
theorem dX3_hasUnits_295 : decode cX3_hasUnits 295 = .ok (.ifCond .gt 22, 3) := dk_157 0 22 (dk_at dksX3_hasUnits_12 15 rfl rfl)
theorem dX3_hasUnits_298 : decode cX3_hasUnits 298 = .ok (.lload 23, 2) := dk_22 23 (dk_at dksX3_hasUnits_12 18 rfl rfl)
theorem dX3_hasUnits_300 : decode cX3_hasUnits 300 = .ok (.lconst 1, 1) := dk_10 (dk_at dksX3_hasUnits_12 20 rfl rfl)
theorem dX3_hasUnits_301 : decode cX3_hasUnits 301 = .ok (.iload 22, 2) := dk_21 22 (dk_at dksX3_hasUnits_12 21 rfl rfl)
theorem dX3_hasUnits_303 : decode cX3_hasUnits 303 = .ok (.iconst 1, 1) := dk_4 (dk_at dksX3_hasUnits_12 23 rfl rfl)
theorem dX3_hasUnits_304 : decode cX3_hasUnits 304 = .ok (.isub, 1) := dk_100 (dk_at dksX3_hasUnits_13 0 rfl rfl)
theorem dX3_hasUnits_305 : decode cX3_hasUnits 305 = .ok (.lshl, 1) := dk_121 (dk_at dksX3_hasUnits_13 1 rfl rfl)
theorem dX3_hasUnits_306 : decode cX3_hasUnits 306 = .ok (.lcmp, 1) := dk_148 (dk_at dksX3_hasUnits_13 2 rfl rfl)
theorem dX3_hasUnits_307 : decode cX3_hasUnits 307 = .ok (.ifCond .ne 14, 3) := dk_154 0 14 (dk_at dksX3_hasUnits_13 3 rfl rfl)
theorem dX3_hasUnits_310 : decode cX3_hasUnits 310 = .ok (.lload 16, 2) := dk_22 16 (dk_at dksX3_hasUnits_13 6 rfl rfl)
theorem dX3_hasUnits_312 : decode cX3_hasUnits 312 = .ok (.lconst 0, 1) := dk_9 (dk_at dksX3_hasUnits_13 8 rfl rfl)
theorem dX3_hasUnits_313 : decode cX3_hasUnits 313 = .ok (.lcmp, 1) := dk_148 (dk_at dksX3_hasUnits_13 9 rfl rfl)
theorem dX3_hasUnits_314 : decode cX3_hasUnits 314 = .ok (.ifCond .le 7, 3) := dk_158 0 7 (dk_at dksX3_hasUnits_13 10 rfl rfl)
theorem dX3_hasUnits_317 : decode cX3_hasUnits 317 = .ok (.iconst 1, 1) := dk_4 (dk_at dksX3_hasUnits_13 13 rfl rfl)
theorem dX3_hasUnits_318 : decode cX3_hasUnits 318 = .ok (.goto 4, 3) := dk_167 0 4 (dk_at dksX3_hasUnits_13 14 rfl rfl)
theorem dX3_hasUnits_321 : decode cX3_hasUnits 321 = .ok (.iconst 0, 1) := dk_3 (dk_at dksX3_hasUnits_13 17 rfl rfl)
theorem dX3_hasUnits_322 : decode cX3_hasUnits 322 = .ok (.istore 20, 2) := dk_54 20 (dk_at dksX3_hasUnits_13 18 rfl rfl)
theorem dX3_hasUnits_324 : decode cX3_hasUnits 324 = .ok (.lload 18, 2) := dk_22 18 (dk_at dksX3_hasUnits_13 20 rfl rfl)
theorem dX3_hasUnits_326 : decode cX3_hasUnits 326 = .ok (.iload 20, 2) := dk_21 20 (dk_at dksX3_hasUnits_13 22 rfl rfl)
theorem dX3_hasUnits_328 : decode cX3_hasUnits 328 = .ok (.ifCond .ne 19, 3) := dk_154 0 19 (dk_at dksX3_hasUnits_14 0 rfl rfl)
theorem dX3_hasUnits_331 : decode cX3_hasUnits 331 = .ok (.iload 21, 2) := dk_21 21 (dk_at dksX3_hasUnits_14 3 rfl rfl)
theorem dX3_hasUnits_333 : decode cX3_hasUnits 333 = .ok (.ifCond .eq 18, 3) := dk_153 0 18 (dk_at dksX3_hasUnits_14 5 rfl rfl)
theorem dX3_hasUnits_336 : decode cX3_hasUnits 336 = .ok (.lload 18, 2) := dk_22 18 (dk_at dksX3_hasUnits_14 8 rfl rfl)
theorem dX3_hasUnits_338 : decode cX3_hasUnits 338 = .ok (.ldc2_w 146, 3) := dk_20 0 146 (dk_at dksX3_hasUnits_14 10 rfl rfl)
theorem dX3_hasUnits_341 : decode cX3_hasUnits 341 = .ok (.lrem, 1) := dk_113 (dk_at dksX3_hasUnits_14 13 rfl rfl)
theorem dX3_hasUnits_342 : decode cX3_hasUnits 342 = .ok (.lconst 1, 1) := dk_10 (dk_at dksX3_hasUnits_14 14 rfl rfl)
theorem dX3_hasUnits_343 : decode cX3_hasUnits 343 = .ok (.lcmp, 1) := dk_148 (dk_at dksX3_hasUnits_14 15 rfl rfl)
theorem dX3_hasUnits_344 : decode cX3_hasUnits 344 = .ok (.ifCond .ne 7, 3) := dk_154 0 7 (dk_at dksX3_hasUnits_14 16 rfl rfl)
theorem dX3_hasUnits_347 : decode cX3_hasUnits 347 = .ok (.lconst 1, 1) := dk_10 (dk_at dksX3_hasUnits_14 19 rfl rfl)
theorem dX3_hasUnits_348 : decode cX3_hasUnits 348 = .ok (.goto 4, 3) := dk_167 0 4 (dk_at dksX3_hasUnits_14 20 rfl rfl)
theorem dX3_hasUnits_351 : decode cX3_hasUnits 351 = .ok (.lconst 0, 1) := dk_9 (dk_at dksX3_hasUnits_14 23 rfl rfl)
theorem dX3_hasUnits_352 : decode cX3_hasUnits 352 = .ok (.ladd, 1) := dk_97 (dk_at dksX3_hasUnits_15 0 rfl rfl)
theorem dX3_hasUnits_353 : decode cX3_hasUnits 353 = .ok (.lstore 18, 2) := dk_55 18 (dk_at dksX3_hasUnits_15 1 rfl rfl)
theorem dX3_hasUnits_355 : decode cX3_hasUnits 355 = .ok (.lload 18, 2) := dk_22 18 (dk_at dksX3_hasUnits_15 3 rfl rfl)
theorem dX3_hasUnits_357 : decode cX3_hasUnits 357 = .ok (.ldc2_w 191, 3) := dk_20 0 191 (dk_at dksX3_hasUnits_15 5 rfl rfl)
theorem dX3_hasUnits_360 : decode cX3_hasUnits 360 = .ok (.lcmp, 1) := dk_148 (dk_at dksX3_hasUnits_15 8 rfl rfl)
theorem dX3_hasUnits_361 : decode cX3_hasUnits 361 = .ok (.ifCond .le 5, 3) := dk_158 0 5 (dk_at dksX3_hasUnits_15 9 rfl rfl)
theorem dX3_hasUnits_364 : decode cX3_hasUnits 364 = .ok (.iconst 0, 1) := dk_3 (dk_at dksX3_hasUnits_15 12 rfl rfl)
theorem dX3_hasUnits_365 : decode cX3_hasUnits 365 = .ok (.ireturn, 1) := dk_172 (dk_at dksX3_hasUnits_15 13 rfl rfl)
theorem dX3_hasUnits_366 : decode cX3_hasUnits 366 = .ok (.aload_n 0, 1) := dk_42 (dk_at dksX3_hasUnits_15 14 rfl rfl)
theorem dX3_hasUnits_367 : decode cX3_hasUnits 367 = .ok (.dload_n 1, 1) := dk_39 (dk_at dksX3_hasUnits_15 15 rfl rfl)
theorem dX3_hasUnits_368 : decode cX3_hasUnits 368 = .ok (.dconst 0, 1) := dk_14 (dk_at dksX3_hasUnits_15 16 rfl rfl)
theorem dX3_hasUnits_369 : decode cX3_hasUnits 369 = .ok (.dcmp .g, 1) := dk_152 (dk_at dksX3_hasUnits_15 17 rfl rfl)
theorem dX3_hasUnits_370 : decode cX3_hasUnits 370 = .ok (.ifCond .ge 9, 3) := dk_156 0 9 (dk_at dksX3_hasUnits_15 18 rfl rfl)
theorem dX3_hasUnits_373 : decode cX3_hasUnits 373 = .ok (.lload 18, 2) := dk_22 18 (dk_at dksX3_hasUnits_15 21 rfl rfl)
theorem dX3_hasUnits_375 : decode cX3_hasUnits 375 = .ok (.lneg, 1) := dk_117 (dk_at dksX3_hasUnits_15 23 rfl rfl)
theorem dX3_hasUnits_376 : decode cX3_hasUnits 376 = .ok (.goto 5, 3) := dk_167 0 5 (dk_at dksX3_hasUnits_16 0 rfl rfl)
theorem dX3_hasUnits_379 : decode cX3_hasUnits 379 = .ok (.lload 18, 2) := dk_22 18 (dk_at dksX3_hasUnits_16 3 rfl rfl)
theorem dX3_hasUnits_381 : decode cX3_hasUnits 381 = .ok (.putfield 181, 3) := dk_181 0 181 (dk_at dksX3_hasUnits_16 5 rfl rfl)
theorem dX3_hasUnits_384 : decode cX3_hasUnits 384 = .ok (.iconst 1, 1) := dk_4 (dk_at dksX3_hasUnits_16 8 rfl rfl)
theorem dX3_hasUnits_385 : decode cX3_hasUnits 385 = .ok (.ireturn, 1) := dk_172 (dk_at dksX3_hasUnits_16 9 rfl rfl)
abbrev cX3_tens : ByteArray := prog_27_method_25_code
def yX3_tens : MethodName := ⟨RX3, "tens", "(I)J"⟩
def dkwX3_tens_0 : List UInt8 := [10, 64, 3, 62, 29, 26, 162, 0, 15, 31, 20, 0, 171, 105, 64, 132, 3, 1, 167, 255, 242, 31, 173]
abbrev dktX3_tens_0 : List UInt8 := dkwX3_tens_0 ++ []
theorem dksX3_tens_0 : cX3_tens.data.toList.drop 0 = dktX3_tens_0 := by decide +kernel
theorem dX3_tens_0 : decode cX3_tens 0 = .ok (.lconst 1, 1) := dk_10 (dk_at dksX3_tens_0 0 rfl rfl)
theorem dX3_tens_1 : decode cX3_tens 1 = .ok (.lstore_n 1, 1) := dk_64 (dk_at dksX3_tens_0 1 rfl rfl)
theorem dX3_tens_2 : decode cX3_tens 2 = .ok (.iconst 0, 1) := dk_3 (dk_at dksX3_tens_0 2 rfl rfl)
theorem dX3_tens_3 : decode cX3_tens 3 = .ok (.istore_n 3, 1) := dk_62 (dk_at dksX3_tens_0 3 rfl rfl)
theorem dX3_tens_4 : decode cX3_tens 4 = .ok (.iload_n 3, 1) := dk_29 (dk_at dksX3_tens_0 4 rfl rfl)
theorem dX3_tens_5 : decode cX3_tens 5 = .ok (.iload_n 0, 1) := dk_26 (dk_at dksX3_tens_0 5 rfl rfl)
theorem dX3_tens_6 : decode cX3_tens 6 = .ok (.if_icmp .ge 15, 3) := dk_162 0 15 (dk_at dksX3_tens_0 6 rfl rfl)
theorem dX3_tens_9 : decode cX3_tens 9 = .ok (.lload_n 1, 1) := dk_31 (dk_at dksX3_tens_0 9 rfl rfl)
theorem dX3_tens_10 : decode cX3_tens 10 = .ok (.ldc2_w 171, 3) := dk_20 0 171 (dk_at dksX3_tens_0 10 rfl rfl)
theorem dX3_tens_13 : decode cX3_tens 13 = .ok (.lmul, 1) := dk_105 (dk_at dksX3_tens_0 13 rfl rfl)
theorem dX3_tens_14 : decode cX3_tens 14 = .ok (.lstore_n 1, 1) := dk_64 (dk_at dksX3_tens_0 14 rfl rfl)
theorem dX3_tens_15 : decode cX3_tens 15 = .ok (.iinc 3 1, 3) := dk_132 3 1 (dk_at dksX3_tens_0 15 rfl rfl)
theorem dX3_tens_18 : decode cX3_tens 18 = .ok (.goto (-14), 3) := dk_167 255 242 (dk_at dksX3_tens_0 18 rfl rfl)
theorem dX3_tens_21 : decode cX3_tens 21 = .ok (.lload_n 1, 1) := dk_31 (dk_at dksX3_tens_0 21 rfl rfl)
theorem dX3_tens_22 : decode cX3_tens 22 = .ok (.lreturn, 1) := dk_173 (dk_at dksX3_tens_0 22 rfl rfl)
abbrev cX3_give : ByteArray := prog_27_method_50_code
def yX3_give : MethodName := ⟨RX3, "give", "(II)I"⟩
def dkwX3_give_3 : List UInt8 := [28, 79, 42, 180, 0, 27, 27, 92, 46, 4, 96, 79, 42, 180, 0, 27, 27, 46, 172]
abbrev dktX3_give_3 : List UInt8 := dkwX3_give_3 ++ []
def dkwX3_give_2 : List UInt8 := [16, 152, 172, 132, 3, 1, 167, 255, 225, 42, 180, 0, 30, 16, 60, 27, 104, 42, 180, 0, 27, 27, 46, 96]
abbrev dktX3_give_2 : List UInt8 := dkwX3_give_2 ++ dktX3_give_3
def dkwX3_give_1 : List UInt8 := [180, 0, 27, 27, 46, 162, 0, 27, 42, 180, 0, 30, 16, 60, 27, 104, 29, 96, 46, 28, 160, 0, 6]
abbrev dktX3_give_1 : List UInt8 := dkwX3_give_1 ++ dktX3_give_2
def dkwX3_give_0 : List UInt8 := [42, 42, 27, 28, 182, 0, 200, 181, 0, 94, 42, 180, 0, 94, 153, 0, 5, 3, 172, 3, 62, 29, 42]
abbrev dktX3_give_0 : List UInt8 := dkwX3_give_0 ++ dktX3_give_1
theorem dksX3_give_0 : cX3_give.data.toList.drop 0 = dktX3_give_0 := by decide +kernel
theorem dksX3_give_1 : cX3_give.data.toList.drop 23 = dktX3_give_1 := dk_seg dksX3_give_0 23 rfl rfl
theorem dksX3_give_2 : cX3_give.data.toList.drop 46 = dktX3_give_2 := dk_seg dksX3_give_1 23 rfl rfl
theorem dksX3_give_3 : cX3_give.data.toList.drop 70 = dktX3_give_3 := dk_seg dksX3_give_2 24 rfl rfl
theorem dX3_give_0 : decode cX3_give 0 = .ok (.aload_n 0, 1) := dk_42 (dk_at dksX3_give_0 0 rfl rfl)
theorem dX3_give_1 : decode cX3_give 1 = .ok (.aload_n 0, 1) := dk_42 (dk_at dksX3_give_0 1 rfl rfl)
theorem dX3_give_2 : decode cX3_give 2 = .ok (.iload_n 1, 1) := dk_27 (dk_at dksX3_give_0 2 rfl rfl)
theorem dX3_give_3 : decode cX3_give 3 = .ok (.iload_n 2, 1) := dk_28 (dk_at dksX3_give_0 3 rfl rfl)
theorem dX3_give_4 : decode cX3_give 4 = .ok (.invokevirtual 200, 3) := dk_182 0 200 (dk_at dksX3_give_0 4 rfl rfl)
theorem dX3_give_7 : decode cX3_give 7 = .ok (.putfield 94, 3) := dk_181 0 94 (dk_at dksX3_give_0 7 rfl rfl)
theorem dX3_give_10 : decode cX3_give 10 = .ok (.aload_n 0, 1) := dk_42 (dk_at dksX3_give_0 10 rfl rfl)
theorem dX3_give_11 : decode cX3_give 11 = .ok (.getfield 94, 3) := dk_180 0 94 (dk_at dksX3_give_0 11 rfl rfl)
theorem dX3_give_14 : decode cX3_give 14 = .ok (.ifCond .eq 5, 3) := dk_153 0 5 (dk_at dksX3_give_0 14 rfl rfl)
theorem dX3_give_17 : decode cX3_give 17 = .ok (.iconst 0, 1) := dk_3 (dk_at dksX3_give_0 17 rfl rfl)
theorem dX3_give_18 : decode cX3_give 18 = .ok (.ireturn, 1) := dk_172 (dk_at dksX3_give_0 18 rfl rfl)
theorem dX3_give_19 : decode cX3_give 19 = .ok (.iconst 0, 1) := dk_3 (dk_at dksX3_give_0 19 rfl rfl)
theorem dX3_give_20 : decode cX3_give 20 = .ok (.istore_n 3, 1) := dk_62 (dk_at dksX3_give_0 20 rfl rfl)
theorem dX3_give_21 : decode cX3_give 21 = .ok (.iload_n 3, 1) := dk_29 (dk_at dksX3_give_0 21 rfl rfl)
theorem dX3_give_22 : decode cX3_give 22 = .ok (.aload_n 0, 1) := dk_42 (dk_at dksX3_give_0 22 rfl rfl)
theorem dX3_give_23 : decode cX3_give 23 = .ok (.getfield 27, 3) := dk_180 0 27 (dk_at dksX3_give_1 0 rfl rfl)
theorem dX3_give_26 : decode cX3_give 26 = .ok (.iload_n 1, 1) := dk_27 (dk_at dksX3_give_1 3 rfl rfl)
theorem dX3_give_27 : decode cX3_give 27 = .ok (.iaload, 1) := dk_46 (dk_at dksX3_give_1 4 rfl rfl)
theorem dX3_give_28 : decode cX3_give 28 = .ok (.if_icmp .ge 27, 3) := dk_162 0 27 (dk_at dksX3_give_1 5 rfl rfl)
theorem dX3_give_31 : decode cX3_give 31 = .ok (.aload_n 0, 1) := dk_42 (dk_at dksX3_give_1 8 rfl rfl)
theorem dX3_give_32 : decode cX3_give 32 = .ok (.getfield 30, 3) := dk_180 0 30 (dk_at dksX3_give_1 9 rfl rfl)
theorem dX3_give_35 : decode cX3_give 35 = .ok (.bipush 60, 2) := dk_16 60 (dk_at dksX3_give_1 12 rfl rfl)
theorem dX3_give_37 : decode cX3_give 37 = .ok (.iload_n 1, 1) := dk_27 (dk_at dksX3_give_1 14 rfl rfl)
theorem dX3_give_38 : decode cX3_give 38 = .ok (.imul, 1) := dk_104 (dk_at dksX3_give_1 15 rfl rfl)
theorem dX3_give_39 : decode cX3_give 39 = .ok (.iload_n 3, 1) := dk_29 (dk_at dksX3_give_1 16 rfl rfl)
theorem dX3_give_40 : decode cX3_give 40 = .ok (.iadd, 1) := dk_96 (dk_at dksX3_give_1 17 rfl rfl)
theorem dX3_give_41 : decode cX3_give 41 = .ok (.iaload, 1) := dk_46 (dk_at dksX3_give_1 18 rfl rfl)
theorem dX3_give_42 : decode cX3_give 42 = .ok (.iload_n 2, 1) := dk_28 (dk_at dksX3_give_1 19 rfl rfl)
theorem dX3_give_43 : decode cX3_give 43 = .ok (.if_icmp .ne 6, 3) := dk_160 0 6 (dk_at dksX3_give_1 20 rfl rfl)
theorem dX3_give_46 : decode cX3_give 46 = .ok (.bipush (-104), 2) := dk_16 152 (dk_at dksX3_give_2 0 rfl rfl)
theorem dX3_give_48 : decode cX3_give 48 = .ok (.ireturn, 1) := dk_172 (dk_at dksX3_give_2 2 rfl rfl)
theorem dX3_give_49 : decode cX3_give 49 = .ok (.iinc 3 1, 3) := dk_132 3 1 (dk_at dksX3_give_2 3 rfl rfl)
theorem dX3_give_52 : decode cX3_give 52 = .ok (.goto (-31), 3) := dk_167 255 225 (dk_at dksX3_give_2 6 rfl rfl)
theorem dX3_give_55 : decode cX3_give 55 = .ok (.aload_n 0, 1) := dk_42 (dk_at dksX3_give_2 9 rfl rfl)
theorem dX3_give_56 : decode cX3_give 56 = .ok (.getfield 30, 3) := dk_180 0 30 (dk_at dksX3_give_2 10 rfl rfl)
theorem dX3_give_59 : decode cX3_give 59 = .ok (.bipush 60, 2) := dk_16 60 (dk_at dksX3_give_2 13 rfl rfl)
theorem dX3_give_61 : decode cX3_give 61 = .ok (.iload_n 1, 1) := dk_27 (dk_at dksX3_give_2 15 rfl rfl)
theorem dX3_give_62 : decode cX3_give 62 = .ok (.imul, 1) := dk_104 (dk_at dksX3_give_2 16 rfl rfl)
theorem dX3_give_63 : decode cX3_give 63 = .ok (.aload_n 0, 1) := dk_42 (dk_at dksX3_give_2 17 rfl rfl)
theorem dX3_give_64 : decode cX3_give 64 = .ok (.getfield 27, 3) := dk_180 0 27 (dk_at dksX3_give_2 18 rfl rfl)
theorem dX3_give_67 : decode cX3_give 67 = .ok (.iload_n 1, 1) := dk_27 (dk_at dksX3_give_2 21 rfl rfl)
theorem dX3_give_68 : decode cX3_give 68 = .ok (.iaload, 1) := dk_46 (dk_at dksX3_give_2 22 rfl rfl)
theorem dX3_give_69 : decode cX3_give 69 = .ok (.iadd, 1) := dk_96 (dk_at dksX3_give_2 23 rfl rfl)
theorem dX3_give_70 : decode cX3_give 70 = .ok (.iload_n 2, 1) := dk_28 (dk_at dksX3_give_3 0 rfl rfl)
theorem dX3_give_71 : decode cX3_give 71 = .ok (.iastore, 1) := dk_79 (dk_at dksX3_give_3 1 rfl rfl)
theorem dX3_give_72 : decode cX3_give 72 = .ok (.aload_n 0, 1) := dk_42 (dk_at dksX3_give_3 2 rfl rfl)
theorem dX3_give_73 : decode cX3_give 73 = .ok (.getfield 27, 3) := dk_180 0 27 (dk_at dksX3_give_3 3 rfl rfl)
theorem dX3_give_76 : decode cX3_give 76 = .ok (.iload_n 1, 1) := dk_27 (dk_at dksX3_give_3 6 rfl rfl)
theorem dX3_give_77 : decode cX3_give 77 = .ok (.dup2, 1) := dk_92 (dk_at dksX3_give_3 7 rfl rfl)
theorem dX3_give_78 : decode cX3_give 78 = .ok (.iaload, 1) := dk_46 (dk_at dksX3_give_3 8 rfl rfl)
theorem dX3_give_79 : decode cX3_give 79 = .ok (.iconst 1, 1) := dk_4 (dk_at dksX3_give_3 9 rfl rfl)
theorem dX3_give_80 : decode cX3_give 80 = .ok (.iadd, 1) := dk_96 (dk_at dksX3_give_3 10 rfl rfl)
theorem dX3_give_81 : decode cX3_give 81 = .ok (.iastore, 1) := dk_79 (dk_at dksX3_give_3 11 rfl rfl)
theorem dX3_give_82 : decode cX3_give 82 = .ok (.aload_n 0, 1) := dk_42 (dk_at dksX3_give_3 12 rfl rfl)
theorem dX3_give_83 : decode cX3_give 83 = .ok (.getfield 27, 3) := dk_180 0 27 (dk_at dksX3_give_3 13 rfl rfl)
theorem dX3_give_86 : decode cX3_give 86 = .ok (.iload_n 1, 1) := dk_27 (dk_at dksX3_give_3 16 rfl rfl)
theorem dX3_give_87 : decode cX3_give 87 = .ok (.iaload, 1) := dk_46 (dk_at dksX3_give_3 17 rfl rfl)
theorem dX3_give_88 : decode cX3_give 88 = .ok (.ireturn, 1) := dk_172 (dk_at dksX3_give_3 18 rfl rfl)
abbrev cX3_run : ByteArray := prog_27_method_64_code
def yX3_run : MethodName := ⟨RX3, "run", "(III)I"⟩
def dkwX3_run_9 : List UInt8 := [42, 89, 180, 1, 100, 4, 96, 181, 1, 100, 42, 180, 1, 100, 4, 100, 172]
abbrev dktX3_run_9 : List UInt8 := dkwX3_run_9 ++ []
def dkwX3_run_8 : List UInt8 := [42, 180, 0, 39, 42, 180, 1, 100, 24, 4, 82, 42, 180, 0, 42, 42, 180, 1, 100, 42, 180, 1, 41, 79]
abbrev dktX3_run_8 : List UInt8 := dkwX3_run_8 ++ dktX3_run_9
def dkwX3_run_7 : List UInt8 := [172, 42, 180, 0, 33, 42, 180, 1, 100, 42, 180, 0, 167, 84, 42, 180, 0, 36, 42, 180, 1, 100, 28, 79]
abbrev dktX3_run_7 : List UInt8 := dkwX3_run_7 ++ dktX3_run_8
def dkwX3_run_6 : List UInt8 := [181, 1, 35, 42, 180, 1, 72, 153, 0, 6, 16, 151, 172, 42, 180, 1, 100, 16, 60, 160, 0, 6, 16, 153]
abbrev dktX3_run_6 : List UInt8 := dkwX3_run_6 ++ dktX3_run_7
def dkwX3_run_5 : List UInt8 := [42, 16, 60, 42, 180, 1, 100, 104, 181, 1, 38, 42, 27, 28, 29, 182, 1, 103, 57, 4, 42, 3]
abbrev dktX3_run_5 : List UInt8 := dkwX3_run_5 ++ dktX3_run_6
def dkwX3_run_4 : List UInt8 := [162, 0, 6, 16, 152, 172, 42, 42, 180, 1, 100, 16, 60, 162, 0, 7, 4, 167, 0, 4, 3, 181, 1, 35]
abbrev dktX3_run_4 : List UInt8 := dkwX3_run_4 ++ dktX3_run_5
def dkwX3_run_3 : List UInt8 := [153, 0, 5, 3, 172, 28, 16, 6, 160, 0, 21, 42, 180, 0, 27, 27, 46, 42, 180, 0, 7, 27, 46]
abbrev dktX3_run_3 : List UInt8 := dkwX3_run_3 ++ dktX3_run_4
def dkwX3_run_2 : List UInt8 := [184, 0, 99, 154, 0, 6, 16, 154, 172, 42, 42, 27, 182, 0, 103, 181, 0, 94, 42, 180, 0, 94]
abbrev dktX3_run_2 : List UInt8 := dkwX3_run_2 ++ dktX3_run_3
def dkwX3_run_1 : List UInt8 := [133, 10, 20, 1, 98, 184, 0, 99, 153, 0, 21, 28, 16, 13, 160, 0, 18, 29, 133, 9, 20, 0, 235]
abbrev dktX3_run_1 : List UInt8 := dkwX3_run_1 ++ dktX3_run_2
def dkwX3_run_0 : List UInt8 := [42, 3, 181, 0, 94, 28, 133, 9, 20, 1, 96, 184, 0, 99, 153, 0, 39, 28, 16, 9, 160, 0, 15, 29]
abbrev dktX3_run_0 : List UInt8 := dkwX3_run_0 ++ dktX3_run_1
theorem dksX3_run_0 : cX3_run.data.toList.drop 0 = dktX3_run_0 := by decide +kernel
theorem dksX3_run_1 : cX3_run.data.toList.drop 24 = dktX3_run_1 := dk_seg dksX3_run_0 24 rfl rfl
theorem dksX3_run_2 : cX3_run.data.toList.drop 47 = dktX3_run_2 := dk_seg dksX3_run_1 23 rfl rfl
theorem dksX3_run_3 : cX3_run.data.toList.drop 69 = dktX3_run_3 := dk_seg dksX3_run_2 22 rfl rfl
theorem dksX3_run_4 : cX3_run.data.toList.drop 92 = dktX3_run_4 := dk_seg dksX3_run_3 23 rfl rfl
theorem dksX3_run_5 : cX3_run.data.toList.drop 116 = dktX3_run_5 := dk_seg dksX3_run_4 24 rfl rfl
theorem dksX3_run_6 : cX3_run.data.toList.drop 138 = dktX3_run_6 := dk_seg dksX3_run_5 22 rfl rfl
theorem dksX3_run_7 : cX3_run.data.toList.drop 162 = dktX3_run_7 := dk_seg dksX3_run_6 24 rfl rfl
theorem dksX3_run_8 : cX3_run.data.toList.drop 186 = dktX3_run_8 := dk_seg dksX3_run_7 24 rfl rfl
theorem dksX3_run_9 : cX3_run.data.toList.drop 210 = dktX3_run_9 := dk_seg dksX3_run_8 24 rfl rfl
theorem dX3_run_0 : decode cX3_run 0 = .ok (.aload_n 0, 1) := dk_42 (dk_at dksX3_run_0 0 rfl rfl)
theorem dX3_run_1 : decode cX3_run 1 = .ok (.iconst 0, 1) := dk_3 (dk_at dksX3_run_0 1 rfl rfl)
theorem dX3_run_2 : decode cX3_run 2 = .ok (.putfield 94, 3) := dk_181 0 94 (dk_at dksX3_run_0 2 rfl rfl)
theorem dX3_run_5 : decode cX3_run 5 = .ok (.iload_n 2, 1) := dk_28 (dk_at dksX3_run_0 5 rfl rfl)
theorem dX3_run_6 : decode cX3_run 6 = .ok (.i2l, 1) := dk_133 (dk_at dksX3_run_0 6 rfl rfl)
theorem dX3_run_7 : decode cX3_run 7 = .ok (.lconst 0, 1) := dk_9 (dk_at dksX3_run_0 7 rfl rfl)
theorem dX3_run_8 : decode cX3_run 8 = .ok (.ldc2_w 352, 3) := dk_20 1 96 (dk_at dksX3_run_0 8 rfl rfl)
theorem dX3_run_11 : decode cX3_run 11 = .ok (.invokestatic 99, 3) := dk_184 0 99 (dk_at dksX3_run_0 11 rfl rfl)
theorem dX3_run_14 : decode cX3_run 14 = .ok (.ifCond .eq 39, 3) := dk_153 0 39 (dk_at dksX3_run_0 14 rfl rfl)
theorem dX3_run_17 : decode cX3_run 17 = .ok (.iload_n 2, 1) := dk_28 (dk_at dksX3_run_0 17 rfl rfl)
theorem dX3_run_18 : decode cX3_run 18 = .ok (.bipush 9, 2) := dk_16 9 (dk_at dksX3_run_0 18 rfl rfl)
theorem dX3_run_20 : decode cX3_run 20 = .ok (.if_icmp .ne 15, 3) := dk_160 0 15 (dk_at dksX3_run_0 20 rfl rfl)
theorem dX3_run_23 : decode cX3_run 23 = .ok (.iload_n 3, 1) := dk_29 (dk_at dksX3_run_0 23 rfl rfl)
theorem dX3_run_24 : decode cX3_run 24 = .ok (.i2l, 1) := dk_133 (dk_at dksX3_run_1 0 rfl rfl)
theorem dX3_run_25 : decode cX3_run 25 = .ok (.lconst 1, 1) := dk_10 (dk_at dksX3_run_1 1 rfl rfl)
theorem dX3_run_26 : decode cX3_run 26 = .ok (.ldc2_w 354, 3) := dk_20 1 98 (dk_at dksX3_run_1 2 rfl rfl)
theorem dX3_run_29 : decode cX3_run 29 = .ok (.invokestatic 99, 3) := dk_184 0 99 (dk_at dksX3_run_1 5 rfl rfl)
theorem dX3_run_32 : decode cX3_run 32 = .ok (.ifCond .eq 21, 3) := dk_153 0 21 (dk_at dksX3_run_1 8 rfl rfl)
theorem dX3_run_35 : decode cX3_run 35 = .ok (.iload_n 2, 1) := dk_28 (dk_at dksX3_run_1 11 rfl rfl)
theorem dX3_run_36 : decode cX3_run 36 = .ok (.bipush 13, 2) := dk_16 13 (dk_at dksX3_run_1 12 rfl rfl)
theorem dX3_run_38 : decode cX3_run 38 = .ok (.if_icmp .ne 18, 3) := dk_160 0 18 (dk_at dksX3_run_1 14 rfl rfl)
theorem dX3_run_41 : decode cX3_run 41 = .ok (.iload_n 3, 1) := dk_29 (dk_at dksX3_run_1 17 rfl rfl)
theorem dX3_run_42 : decode cX3_run 42 = .ok (.i2l, 1) := dk_133 (dk_at dksX3_run_1 18 rfl rfl)
theorem dX3_run_43 : decode cX3_run 43 = .ok (.lconst 0, 1) := dk_9 (dk_at dksX3_run_1 19 rfl rfl)
theorem dX3_run_44 : decode cX3_run 44 = .ok (.ldc2_w 235, 3) := dk_20 0 235 (dk_at dksX3_run_1 20 rfl rfl)
theorem dX3_run_47 : decode cX3_run 47 = .ok (.invokestatic 99, 3) := dk_184 0 99 (dk_at dksX3_run_2 0 rfl rfl)
theorem dX3_run_50 : decode cX3_run 50 = .ok (.ifCond .ne 6, 3) := dk_154 0 6 (dk_at dksX3_run_2 3 rfl rfl)
theorem dX3_run_53 : decode cX3_run 53 = .ok (.bipush (-102), 2) := dk_16 154 (dk_at dksX3_run_2 6 rfl rfl)
theorem dX3_run_55 : decode cX3_run 55 = .ok (.ireturn, 1) := dk_172 (dk_at dksX3_run_2 8 rfl rfl)
theorem dX3_run_56 : decode cX3_run 56 = .ok (.aload_n 0, 1) := dk_42 (dk_at dksX3_run_2 9 rfl rfl)
theorem dX3_run_57 : decode cX3_run 57 = .ok (.aload_n 0, 1) := dk_42 (dk_at dksX3_run_2 10 rfl rfl)
theorem dX3_run_58 : decode cX3_run 58 = .ok (.iload_n 1, 1) := dk_27 (dk_at dksX3_run_2 11 rfl rfl)
theorem dX3_run_59 : decode cX3_run 59 = .ok (.invokevirtual 103, 3) := dk_182 0 103 (dk_at dksX3_run_2 12 rfl rfl)
theorem dX3_run_62 : decode cX3_run 62 = .ok (.putfield 94, 3) := dk_181 0 94 (dk_at dksX3_run_2 15 rfl rfl)
theorem dX3_run_65 : decode cX3_run 65 = .ok (.aload_n 0, 1) := dk_42 (dk_at dksX3_run_2 18 rfl rfl)
theorem dX3_run_66 : decode cX3_run 66 = .ok (.getfield 94, 3) := dk_180 0 94 (dk_at dksX3_run_2 19 rfl rfl)
theorem dX3_run_69 : decode cX3_run 69 = .ok (.ifCond .eq 5, 3) := dk_153 0 5 (dk_at dksX3_run_3 0 rfl rfl)
theorem dX3_run_72 : decode cX3_run 72 = .ok (.iconst 0, 1) := dk_3 (dk_at dksX3_run_3 3 rfl rfl)
theorem dX3_run_73 : decode cX3_run 73 = .ok (.ireturn, 1) := dk_172 (dk_at dksX3_run_3 4 rfl rfl)
theorem dX3_run_74 : decode cX3_run 74 = .ok (.iload_n 2, 1) := dk_28 (dk_at dksX3_run_3 5 rfl rfl)
theorem dX3_run_75 : decode cX3_run 75 = .ok (.bipush 6, 2) := dk_16 6 (dk_at dksX3_run_3 6 rfl rfl)
theorem dX3_run_77 : decode cX3_run 77 = .ok (.if_icmp .ne 21, 3) := dk_160 0 21 (dk_at dksX3_run_3 8 rfl rfl)
theorem dX3_run_80 : decode cX3_run 80 = .ok (.aload_n 0, 1) := dk_42 (dk_at dksX3_run_3 11 rfl rfl)
theorem dX3_run_81 : decode cX3_run 81 = .ok (.getfield 27, 3) := dk_180 0 27 (dk_at dksX3_run_3 12 rfl rfl)
theorem dX3_run_84 : decode cX3_run 84 = .ok (.iload_n 1, 1) := dk_27 (dk_at dksX3_run_3 15 rfl rfl)
theorem dX3_run_85 : decode cX3_run 85 = .ok (.iaload, 1) := dk_46 (dk_at dksX3_run_3 16 rfl rfl)
theorem dX3_run_86 : decode cX3_run 86 = .ok (.aload_n 0, 1) := dk_42 (dk_at dksX3_run_3 17 rfl rfl)
theorem dX3_run_87 : decode cX3_run 87 = .ok (.getfield 7, 3) := dk_180 0 7 (dk_at dksX3_run_3 18 rfl rfl)
theorem dX3_run_90 : decode cX3_run 90 = .ok (.iload_n 1, 1) := dk_27 (dk_at dksX3_run_3 21 rfl rfl)
theorem dX3_run_91 : decode cX3_run 91 = .ok (.iaload, 1) := dk_46 (dk_at dksX3_run_3 22 rfl rfl)
theorem dX3_run_92 : decode cX3_run 92 = .ok (.if_icmp .ge 6, 3) := dk_162 0 6 (dk_at dksX3_run_4 0 rfl rfl)
theorem dX3_run_95 : decode cX3_run 95 = .ok (.bipush (-104), 2) := dk_16 152 (dk_at dksX3_run_4 3 rfl rfl)
theorem dX3_run_97 : decode cX3_run 97 = .ok (.ireturn, 1) := dk_172 (dk_at dksX3_run_4 5 rfl rfl)
theorem dX3_run_98 : decode cX3_run 98 = .ok (.aload_n 0, 1) := dk_42 (dk_at dksX3_run_4 6 rfl rfl)
theorem dX3_run_99 : decode cX3_run 99 = .ok (.aload_n 0, 1) := dk_42 (dk_at dksX3_run_4 7 rfl rfl)
theorem dX3_run_100 : decode cX3_run 100 = .ok (.getfield 356, 3) := dk_180 1 100 (dk_at dksX3_run_4 8 rfl rfl)
theorem dX3_run_103 : decode cX3_run 103 = .ok (.bipush 60, 2) := dk_16 60 (dk_at dksX3_run_4 11 rfl rfl)
theorem dX3_run_105 : decode cX3_run 105 = .ok (.if_icmp .ge 7, 3) := dk_162 0 7 (dk_at dksX3_run_4 13 rfl rfl)
theorem dX3_run_108 : decode cX3_run 108 = .ok (.iconst 1, 1) := dk_4 (dk_at dksX3_run_4 16 rfl rfl)
theorem dX3_run_109 : decode cX3_run 109 = .ok (.goto 4, 3) := dk_167 0 4 (dk_at dksX3_run_4 17 rfl rfl)
theorem dX3_run_112 : decode cX3_run 112 = .ok (.iconst 0, 1) := dk_3 (dk_at dksX3_run_4 20 rfl rfl)
theorem dX3_run_113 : decode cX3_run 113 = .ok (.putfield 291, 3) := dk_181 1 35 (dk_at dksX3_run_4 21 rfl rfl)
theorem dX3_run_116 : decode cX3_run 116 = .ok (.aload_n 0, 1) := dk_42 (dk_at dksX3_run_5 0 rfl rfl)
theorem dX3_run_117 : decode cX3_run 117 = .ok (.bipush 60, 2) := dk_16 60 (dk_at dksX3_run_5 1 rfl rfl)
theorem dX3_run_119 : decode cX3_run 119 = .ok (.aload_n 0, 1) := dk_42 (dk_at dksX3_run_5 3 rfl rfl)
theorem dX3_run_120 : decode cX3_run 120 = .ok (.getfield 356, 3) := dk_180 1 100 (dk_at dksX3_run_5 4 rfl rfl)
theorem dX3_run_123 : decode cX3_run 123 = .ok (.imul, 1) := dk_104 (dk_at dksX3_run_5 7 rfl rfl)
theorem dX3_run_124 : decode cX3_run 124 = .ok (.putfield 294, 3) := dk_181 1 38 (dk_at dksX3_run_5 8 rfl rfl)
theorem dX3_run_127 : decode cX3_run 127 = .ok (.aload_n 0, 1) := dk_42 (dk_at dksX3_run_5 11 rfl rfl)
theorem dX3_run_128 : decode cX3_run 128 = .ok (.iload_n 1, 1) := dk_27 (dk_at dksX3_run_5 12 rfl rfl)
theorem dX3_run_129 : decode cX3_run 129 = .ok (.iload_n 2, 1) := dk_28 (dk_at dksX3_run_5 13 rfl rfl)
theorem dX3_run_130 : decode cX3_run 130 = .ok (.iload_n 3, 1) := dk_29 (dk_at dksX3_run_5 14 rfl rfl)
theorem dX3_run_131 : decode cX3_run 131 = .ok (.invokevirtual 359, 3) := dk_182 1 103 (dk_at dksX3_run_5 15 rfl rfl)
theorem dX3_run_134 : decode cX3_run 134 = .ok (.dstore 4, 2) := dk_57 4 (dk_at dksX3_run_5 18 rfl rfl)
theorem dX3_run_136 : decode cX3_run 136 = .ok (.aload_n 0, 1) := dk_42 (dk_at dksX3_run_5 20 rfl rfl)
theorem dX3_run_137 : decode cX3_run 137 = .ok (.iconst 0, 1) := dk_3 (dk_at dksX3_run_5 21 rfl rfl)
theorem dX3_run_138 : decode cX3_run 138 = .ok (.putfield 291, 3) := dk_181 1 35 (dk_at dksX3_run_6 0 rfl rfl)
theorem dX3_run_141 : decode cX3_run 141 = .ok (.aload_n 0, 1) := dk_42 (dk_at dksX3_run_6 3 rfl rfl)
theorem dX3_run_142 : decode cX3_run 142 = .ok (.getfield 328, 3) := dk_180 1 72 (dk_at dksX3_run_6 4 rfl rfl)
theorem dX3_run_145 : decode cX3_run 145 = .ok (.ifCond .eq 6, 3) := dk_153 0 6 (dk_at dksX3_run_6 7 rfl rfl)
theorem dX3_run_148 : decode cX3_run 148 = .ok (.bipush (-105), 2) := dk_16 151 (dk_at dksX3_run_6 10 rfl rfl)
theorem dX3_run_150 : decode cX3_run 150 = .ok (.ireturn, 1) := dk_172 (dk_at dksX3_run_6 12 rfl rfl)
theorem dX3_run_151 : decode cX3_run 151 = .ok (.aload_n 0, 1) := dk_42 (dk_at dksX3_run_6 13 rfl rfl)
theorem dX3_run_152 : decode cX3_run 152 = .ok (.getfield 356, 3) := dk_180 1 100 (dk_at dksX3_run_6 14 rfl rfl)
theorem dX3_run_155 : decode cX3_run 155 = .ok (.bipush 60, 2) := dk_16 60 (dk_at dksX3_run_6 17 rfl rfl)
theorem dX3_run_157 : decode cX3_run 157 = .ok (.if_icmp .ne 6, 3) := dk_160 0 6 (dk_at dksX3_run_6 19 rfl rfl)
theorem dX3_run_160 : decode cX3_run 160 = .ok (.bipush (-103), 2) := dk_16 153 (dk_at dksX3_run_6 22 rfl rfl)
theorem dX3_run_162 : decode cX3_run 162 = .ok (.ireturn, 1) := dk_172 (dk_at dksX3_run_7 0 rfl rfl)
theorem dX3_run_163 : decode cX3_run 163 = .ok (.aload_n 0, 1) := dk_42 (dk_at dksX3_run_7 1 rfl rfl)
theorem dX3_run_164 : decode cX3_run 164 = .ok (.getfield 33, 3) := dk_180 0 33 (dk_at dksX3_run_7 2 rfl rfl)
theorem dX3_run_167 : decode cX3_run 167 = .ok (.aload_n 0, 1) := dk_42 (dk_at dksX3_run_7 5 rfl rfl)
theorem dX3_run_168 : decode cX3_run 168 = .ok (.getfield 356, 3) := dk_180 1 100 (dk_at dksX3_run_7 6 rfl rfl)
theorem dX3_run_171 : decode cX3_run 171 = .ok (.aload_n 0, 1) := dk_42 (dk_at dksX3_run_7 9 rfl rfl)
theorem dX3_run_172 : decode cX3_run 172 = .ok (.getfield 167, 3) := dk_180 0 167 (dk_at dksX3_run_7 10 rfl rfl)
theorem dX3_run_175 : decode cX3_run 175 = .ok (.bastore, 1) := dk_84 (dk_at dksX3_run_7 13 rfl rfl)
theorem dX3_run_176 : decode cX3_run 176 = .ok (.aload_n 0, 1) := dk_42 (dk_at dksX3_run_7 14 rfl rfl)
theorem dX3_run_177 : decode cX3_run 177 = .ok (.getfield 36, 3) := dk_180 0 36 (dk_at dksX3_run_7 15 rfl rfl)
theorem dX3_run_180 : decode cX3_run 180 = .ok (.aload_n 0, 1) := dk_42 (dk_at dksX3_run_7 18 rfl rfl)
theorem dX3_run_181 : decode cX3_run 181 = .ok (.getfield 356, 3) := dk_180 1 100 (dk_at dksX3_run_7 19 rfl rfl)
theorem dX3_run_184 : decode cX3_run 184 = .ok (.iload_n 2, 1) := dk_28 (dk_at dksX3_run_7 22 rfl rfl)
theorem dX3_run_185 : decode cX3_run 185 = .ok (.iastore, 1) := dk_79 (dk_at dksX3_run_7 23 rfl rfl)
theorem dX3_run_186 : decode cX3_run 186 = .ok (.aload_n 0, 1) := dk_42 (dk_at dksX3_run_8 0 rfl rfl)
theorem dX3_run_187 : decode cX3_run 187 = .ok (.getfield 39, 3) := dk_180 0 39 (dk_at dksX3_run_8 1 rfl rfl)
theorem dX3_run_190 : decode cX3_run 190 = .ok (.aload_n 0, 1) := dk_42 (dk_at dksX3_run_8 4 rfl rfl)
theorem dX3_run_191 : decode cX3_run 191 = .ok (.getfield 356, 3) := dk_180 1 100 (dk_at dksX3_run_8 5 rfl rfl)
theorem dX3_run_194 : decode cX3_run 194 = .ok (.dload 4, 2) := dk_24 4 (dk_at dksX3_run_8 8 rfl rfl)
theorem dX3_run_196 : decode cX3_run 196 = .ok (.dastore, 1) := dk_82 (dk_at dksX3_run_8 10 rfl rfl)
theorem dX3_run_197 : decode cX3_run 197 = .ok (.aload_n 0, 1) := dk_42 (dk_at dksX3_run_8 11 rfl rfl)
theorem dX3_run_198 : decode cX3_run 198 = .ok (.getfield 42, 3) := dk_180 0 42 (dk_at dksX3_run_8 12 rfl rfl)
theorem dX3_run_201 : decode cX3_run 201 = .ok (.aload_n 0, 1) := dk_42 (dk_at dksX3_run_8 15 rfl rfl)
theorem dX3_run_202 : decode cX3_run 202 = .ok (.getfield 356, 3) := dk_180 1 100 (dk_at dksX3_run_8 16 rfl rfl)
theorem dX3_run_205 : decode cX3_run 205 = .ok (.aload_n 0, 1) := dk_42 (dk_at dksX3_run_8 19 rfl rfl)
theorem dX3_run_206 : decode cX3_run 206 = .ok (.getfield 297, 3) := dk_180 1 41 (dk_at dksX3_run_8 20 rfl rfl)
theorem dX3_run_209 : decode cX3_run 209 = .ok (.iastore, 1) := dk_79 (dk_at dksX3_run_8 23 rfl rfl)
theorem dX3_run_210 : decode cX3_run 210 = .ok (.aload_n 0, 1) := dk_42 (dk_at dksX3_run_9 0 rfl rfl)
theorem dX3_run_211 : decode cX3_run 211 = .ok (.dup, 1) := dk_89 (dk_at dksX3_run_9 1 rfl rfl)
theorem dX3_run_212 : decode cX3_run 212 = .ok (.getfield 356, 3) := dk_180 1 100 (dk_at dksX3_run_9 2 rfl rfl)
theorem dX3_run_215 : decode cX3_run 215 = .ok (.iconst 1, 1) := dk_4 (dk_at dksX3_run_9 5 rfl rfl)
theorem dX3_run_216 : decode cX3_run 216 = .ok (.iadd, 1) := dk_96 (dk_at dksX3_run_9 6 rfl rfl)
theorem dX3_run_217 : decode cX3_run 217 = .ok (.putfield 356, 3) := dk_181 1 100 (dk_at dksX3_run_9 7 rfl rfl)
theorem dX3_run_220 : decode cX3_run 220 = .ok (.aload_n 0, 1) := dk_42 (dk_at dksX3_run_9 10 rfl rfl)
theorem dX3_run_221 : decode cX3_run 221 = .ok (.getfield 356, 3) := dk_180 1 100 (dk_at dksX3_run_9 11 rfl rfl)
theorem dX3_run_224 : decode cX3_run 224 = .ok (.iconst 1, 1) := dk_4 (dk_at dksX3_run_9 14 rfl rfl)
theorem dX3_run_225 : decode cX3_run 225 = .ok (.isub, 1) := dk_100 (dk_at dksX3_run_9 15 rfl rfl)
theorem dX3_run_226 : decode cX3_run 226 = .ok (.ireturn, 1) := dk_172 (dk_at dksX3_run_9 16 rfl rfl)
abbrev cX3_totalOf : ByteArray := prog_27_method_63_code
def yX3_totalOf : MethodName := ⟨RX3, "totalOf", "(III)D"⟩
def dkwX3_totalOf_5 : List UInt8 := [182, 1, 89, 175, 42, 27, 4, 182, 1, 89, 175, 42, 27, 28, 182, 1, 93, 175]
abbrev dktX3_totalOf_5 : List UInt8 := dkwX3_totalOf_5 ++ []
def dkwX3_totalOf_4 : List UInt8 := [42, 27, 182, 1, 79, 175, 42, 27, 29, 182, 1, 83, 175, 42, 27, 182, 1, 86, 175, 42, 27, 3]
abbrev dktX3_totalOf_4 : List UInt8 := dkwX3_totalOf_4 ++ dktX3_totalOf_5
def dkwX3_totalOf_3 : List UInt8 := [170, 0, 0, 0, 66, 0, 0, 0, 8, 0, 0, 0, 12, 0, 0, 0, 33, 0, 0, 0, 39, 0, 0, 0, 46, 0, 0, 0, 52, 0, 0, 0, 59]
abbrev dktX3_totalOf_3 : List UInt8 := dkwX3_totalOf_3 ++ dktX3_totalOf_4
def dkwX3_totalOf_2 : List UInt8 := [27, 46, 154, 0, 7, 14, 167, 0, 12, 42, 180, 0, 17, 16, 60, 27, 104, 49, 175, 28]
abbrev dktX3_totalOf_2 : List UInt8 := dkwX3_totalOf_2 ++ dktX3_totalOf_3
def dkwX3_totalOf_1 : List UInt8 := [160, 0, 10, 42, 27, 29, 182, 1, 75, 175, 42, 180, 0, 7, 27, 46, 5, 162, 0, 26, 42, 180, 0, 7]
abbrev dktX3_totalOf_1 : List UInt8 := dkwX3_totalOf_1 ++ dktX3_totalOf_2
def dkwX3_totalOf_0 : List UInt8 := [42, 42, 180, 0, 13, 27, 51, 181, 0, 167, 42, 3, 181, 1, 41, 42, 3, 181, 1, 72, 28, 16, 13]
abbrev dktX3_totalOf_0 : List UInt8 := dkwX3_totalOf_0 ++ dktX3_totalOf_1
theorem dksX3_totalOf_0 : cX3_totalOf.data.toList.drop 0 = dktX3_totalOf_0 := by decide +kernel
theorem dksX3_totalOf_1 : cX3_totalOf.data.toList.drop 23 = dktX3_totalOf_1 := dk_seg dksX3_totalOf_0 23 rfl rfl
theorem dksX3_totalOf_2 : cX3_totalOf.data.toList.drop 47 = dktX3_totalOf_2 := dk_seg dksX3_totalOf_1 24 rfl rfl
theorem dksX3_totalOf_3 : cX3_totalOf.data.toList.drop 67 = dktX3_totalOf_3 := dk_seg dksX3_totalOf_2 20 rfl rfl
theorem dksX3_totalOf_4 : cX3_totalOf.data.toList.drop 100 = dktX3_totalOf_4 := dk_seg dksX3_totalOf_3 33 rfl rfl
theorem dksX3_totalOf_5 : cX3_totalOf.data.toList.drop 122 = dktX3_totalOf_5 := dk_seg dksX3_totalOf_4 22 rfl rfl
theorem dX3_totalOf_0 : decode cX3_totalOf 0 = .ok (.aload_n 0, 1) := dk_42 (dk_at dksX3_totalOf_0 0 rfl rfl)
theorem dX3_totalOf_1 : decode cX3_totalOf 1 = .ok (.aload_n 0, 1) := dk_42 (dk_at dksX3_totalOf_0 1 rfl rfl)
theorem dX3_totalOf_2 : decode cX3_totalOf 2 = .ok (.getfield 13, 3) := dk_180 0 13 (dk_at dksX3_totalOf_0 2 rfl rfl)
theorem dX3_totalOf_5 : decode cX3_totalOf 5 = .ok (.iload_n 1, 1) := dk_27 (dk_at dksX3_totalOf_0 5 rfl rfl)
theorem dX3_totalOf_6 : decode cX3_totalOf 6 = .ok (.baload, 1) := dk_51 (dk_at dksX3_totalOf_0 6 rfl rfl)
theorem dX3_totalOf_7 : decode cX3_totalOf 7 = .ok (.putfield 167, 3) := dk_181 0 167 (dk_at dksX3_totalOf_0 7 rfl rfl)
theorem dX3_totalOf_10 : decode cX3_totalOf 10 = .ok (.aload_n 0, 1) := dk_42 (dk_at dksX3_totalOf_0 10 rfl rfl)
theorem dX3_totalOf_11 : decode cX3_totalOf 11 = .ok (.iconst 0, 1) := dk_3 (dk_at dksX3_totalOf_0 11 rfl rfl)
theorem dX3_totalOf_12 : decode cX3_totalOf 12 = .ok (.putfield 297, 3) := dk_181 1 41 (dk_at dksX3_totalOf_0 12 rfl rfl)
theorem dX3_totalOf_15 : decode cX3_totalOf 15 = .ok (.aload_n 0, 1) := dk_42 (dk_at dksX3_totalOf_0 15 rfl rfl)
theorem dX3_totalOf_16 : decode cX3_totalOf 16 = .ok (.iconst 0, 1) := dk_3 (dk_at dksX3_totalOf_0 16 rfl rfl)
theorem dX3_totalOf_17 : decode cX3_totalOf 17 = .ok (.putfield 328, 3) := dk_181 1 72 (dk_at dksX3_totalOf_0 17 rfl rfl)
theorem dX3_totalOf_20 : decode cX3_totalOf 20 = .ok (.iload_n 2, 1) := dk_28 (dk_at dksX3_totalOf_0 20 rfl rfl)
theorem dX3_totalOf_21 : decode cX3_totalOf 21 = .ok (.bipush 13, 2) := dk_16 13 (dk_at dksX3_totalOf_0 21 rfl rfl)
theorem dX3_totalOf_23 : decode cX3_totalOf 23 = .ok (.if_icmp .ne 10, 3) := dk_160 0 10 (dk_at dksX3_totalOf_1 0 rfl rfl)
theorem dX3_totalOf_26 : decode cX3_totalOf 26 = .ok (.aload_n 0, 1) := dk_42 (dk_at dksX3_totalOf_1 3 rfl rfl)
theorem dX3_totalOf_27 : decode cX3_totalOf 27 = .ok (.iload_n 1, 1) := dk_27 (dk_at dksX3_totalOf_1 4 rfl rfl)
theorem dX3_totalOf_28 : decode cX3_totalOf 28 = .ok (.iload_n 3, 1) := dk_29 (dk_at dksX3_totalOf_1 5 rfl rfl)
theorem dX3_totalOf_29 : decode cX3_totalOf 29 = .ok (.invokevirtual 331, 3) := dk_182 1 75 (dk_at dksX3_totalOf_1 6 rfl rfl)
theorem dX3_totalOf_32 : decode cX3_totalOf 32 = .ok (.dreturn, 1) := dk_175 (dk_at dksX3_totalOf_1 9 rfl rfl)
theorem dX3_totalOf_33 : decode cX3_totalOf 33 = .ok (.aload_n 0, 1) := dk_42 (dk_at dksX3_totalOf_1 10 rfl rfl)
theorem dX3_totalOf_34 : decode cX3_totalOf 34 = .ok (.getfield 7, 3) := dk_180 0 7 (dk_at dksX3_totalOf_1 11 rfl rfl)
theorem dX3_totalOf_37 : decode cX3_totalOf 37 = .ok (.iload_n 1, 1) := dk_27 (dk_at dksX3_totalOf_1 14 rfl rfl)
theorem dX3_totalOf_38 : decode cX3_totalOf 38 = .ok (.iaload, 1) := dk_46 (dk_at dksX3_totalOf_1 15 rfl rfl)
theorem dX3_totalOf_39 : decode cX3_totalOf 39 = .ok (.iconst 2, 1) := dk_5 (dk_at dksX3_totalOf_1 16 rfl rfl)
theorem dX3_totalOf_40 : decode cX3_totalOf 40 = .ok (.if_icmp .ge 26, 3) := dk_162 0 26 (dk_at dksX3_totalOf_1 17 rfl rfl)
theorem dX3_totalOf_43 : decode cX3_totalOf 43 = .ok (.aload_n 0, 1) := dk_42 (dk_at dksX3_totalOf_1 20 rfl rfl)
theorem dX3_totalOf_44 : decode cX3_totalOf 44 = .ok (.getfield 7, 3) := dk_180 0 7 (dk_at dksX3_totalOf_1 21 rfl rfl)
theorem dX3_totalOf_47 : decode cX3_totalOf 47 = .ok (.iload_n 1, 1) := dk_27 (dk_at dksX3_totalOf_2 0 rfl rfl)
theorem dX3_totalOf_48 : decode cX3_totalOf 48 = .ok (.iaload, 1) := dk_46 (dk_at dksX3_totalOf_2 1 rfl rfl)
theorem dX3_totalOf_49 : decode cX3_totalOf 49 = .ok (.ifCond .ne 7, 3) := dk_154 0 7 (dk_at dksX3_totalOf_2 2 rfl rfl)
theorem dX3_totalOf_52 : decode cX3_totalOf 52 = .ok (.dconst 0, 1) := dk_14 (dk_at dksX3_totalOf_2 5 rfl rfl)
theorem dX3_totalOf_53 : decode cX3_totalOf 53 = .ok (.goto 12, 3) := dk_167 0 12 (dk_at dksX3_totalOf_2 6 rfl rfl)
theorem dX3_totalOf_56 : decode cX3_totalOf 56 = .ok (.aload_n 0, 1) := dk_42 (dk_at dksX3_totalOf_2 9 rfl rfl)
theorem dX3_totalOf_57 : decode cX3_totalOf 57 = .ok (.getfield 17, 3) := dk_180 0 17 (dk_at dksX3_totalOf_2 10 rfl rfl)
theorem dX3_totalOf_60 : decode cX3_totalOf 60 = .ok (.bipush 60, 2) := dk_16 60 (dk_at dksX3_totalOf_2 13 rfl rfl)
theorem dX3_totalOf_62 : decode cX3_totalOf 62 = .ok (.iload_n 1, 1) := dk_27 (dk_at dksX3_totalOf_2 15 rfl rfl)
theorem dX3_totalOf_63 : decode cX3_totalOf 63 = .ok (.imul, 1) := dk_104 (dk_at dksX3_totalOf_2 16 rfl rfl)
theorem dX3_totalOf_64 : decode cX3_totalOf 64 = .ok (.daload, 1) := dk_49 (dk_at dksX3_totalOf_2 17 rfl rfl)
theorem dX3_totalOf_65 : decode cX3_totalOf 65 = .ok (.dreturn, 1) := dk_175 (dk_at dksX3_totalOf_2 18 rfl rfl)
theorem dX3_totalOf_66 : decode cX3_totalOf 66 = .ok (.iload_n 2, 1) := dk_28 (dk_at dksX3_totalOf_2 19 rfl rfl)
theorem dX3_totalOf_67 : decode cX3_totalOf 67 = .ok (.tableswitch 66 8 12 #[33, 39, 46, 52, 59], 33) := by decide +kernel
theorem dX3_totalOf_100 : decode cX3_totalOf 100 = .ok (.aload_n 0, 1) := dk_42 (dk_at dksX3_totalOf_4 0 rfl rfl)
theorem dX3_totalOf_101 : decode cX3_totalOf 101 = .ok (.iload_n 1, 1) := dk_27 (dk_at dksX3_totalOf_4 1 rfl rfl)
theorem dX3_totalOf_102 : decode cX3_totalOf 102 = .ok (.invokevirtual 335, 3) := dk_182 1 79 (dk_at dksX3_totalOf_4 2 rfl rfl)
theorem dX3_totalOf_105 : decode cX3_totalOf 105 = .ok (.dreturn, 1) := dk_175 (dk_at dksX3_totalOf_4 5 rfl rfl)
theorem dX3_totalOf_106 : decode cX3_totalOf 106 = .ok (.aload_n 0, 1) := dk_42 (dk_at dksX3_totalOf_4 6 rfl rfl)
theorem dX3_totalOf_107 : decode cX3_totalOf 107 = .ok (.iload_n 1, 1) := dk_27 (dk_at dksX3_totalOf_4 7 rfl rfl)
theorem dX3_totalOf_108 : decode cX3_totalOf 108 = .ok (.iload_n 3, 1) := dk_29 (dk_at dksX3_totalOf_4 8 rfl rfl)
theorem dX3_totalOf_109 : decode cX3_totalOf 109 = .ok (.invokevirtual 339, 3) := dk_182 1 83 (dk_at dksX3_totalOf_4 9 rfl rfl)
theorem dX3_totalOf_112 : decode cX3_totalOf 112 = .ok (.dreturn, 1) := dk_175 (dk_at dksX3_totalOf_4 12 rfl rfl)
theorem dX3_totalOf_113 : decode cX3_totalOf 113 = .ok (.aload_n 0, 1) := dk_42 (dk_at dksX3_totalOf_4 13 rfl rfl)
theorem dX3_totalOf_114 : decode cX3_totalOf 114 = .ok (.iload_n 1, 1) := dk_27 (dk_at dksX3_totalOf_4 14 rfl rfl)
theorem dX3_totalOf_115 : decode cX3_totalOf 115 = .ok (.invokevirtual 342, 3) := dk_182 1 86 (dk_at dksX3_totalOf_4 15 rfl rfl)
theorem dX3_totalOf_118 : decode cX3_totalOf 118 = .ok (.dreturn, 1) := dk_175 (dk_at dksX3_totalOf_4 18 rfl rfl)
theorem dX3_totalOf_119 : decode cX3_totalOf 119 = .ok (.aload_n 0, 1) := dk_42 (dk_at dksX3_totalOf_4 19 rfl rfl)
theorem dX3_totalOf_120 : decode cX3_totalOf 120 = .ok (.iload_n 1, 1) := dk_27 (dk_at dksX3_totalOf_4 20 rfl rfl)
theorem dX3_totalOf_121 : decode cX3_totalOf 121 = .ok (.iconst 0, 1) := dk_3 (dk_at dksX3_totalOf_4 21 rfl rfl)
theorem dX3_totalOf_122 : decode cX3_totalOf 122 = .ok (.invokevirtual 345, 3) := dk_182 1 89 (dk_at dksX3_totalOf_5 0 rfl rfl)
theorem dX3_totalOf_125 : decode cX3_totalOf 125 = .ok (.dreturn, 1) := dk_175 (dk_at dksX3_totalOf_5 3 rfl rfl)
theorem dX3_totalOf_126 : decode cX3_totalOf 126 = .ok (.aload_n 0, 1) := dk_42 (dk_at dksX3_totalOf_5 4 rfl rfl)
theorem dX3_totalOf_127 : decode cX3_totalOf 127 = .ok (.iload_n 1, 1) := dk_27 (dk_at dksX3_totalOf_5 5 rfl rfl)
theorem dX3_totalOf_128 : decode cX3_totalOf 128 = .ok (.iconst 1, 1) := dk_4 (dk_at dksX3_totalOf_5 6 rfl rfl)
theorem dX3_totalOf_129 : decode cX3_totalOf 129 = .ok (.invokevirtual 345, 3) := dk_182 1 89 (dk_at dksX3_totalOf_5 7 rfl rfl)
theorem dX3_totalOf_132 : decode cX3_totalOf 132 = .ok (.dreturn, 1) := dk_175 (dk_at dksX3_totalOf_5 10 rfl rfl)
theorem dX3_totalOf_133 : decode cX3_totalOf 133 = .ok (.aload_n 0, 1) := dk_42 (dk_at dksX3_totalOf_5 11 rfl rfl)
theorem dX3_totalOf_134 : decode cX3_totalOf 134 = .ok (.iload_n 1, 1) := dk_27 (dk_at dksX3_totalOf_5 12 rfl rfl)
theorem dX3_totalOf_135 : decode cX3_totalOf 135 = .ok (.iload_n 2, 1) := dk_28 (dk_at dksX3_totalOf_5 13 rfl rfl)
theorem dX3_totalOf_136 : decode cX3_totalOf 136 = .ok (.invokevirtual 349, 3) := dk_182 1 93 (dk_at dksX3_totalOf_5 14 rfl rfl)
theorem dX3_totalOf_139 : decode cX3_totalOf 139 = .ok (.dreturn, 1) := dk_175 (dk_at dksX3_totalOf_5 17 rfl rfl)
abbrev cX3_byUnits : ByteArray := prog_27_method_62_code
def yX3_byUnits : MethodName := ⟨RX3, "byUnits", "(II)D"⟩
def dkwX3_byUnits_3 : List UInt8 := [111, 57, 5, 42, 180, 0, 167, 153, 0, 8, 24, 5, 167, 0, 7, 24, 5, 144, 141, 175]
abbrev dktX3_byUnits_3 : List UInt8 := dkwX3_byUnits_3 ++ []
def dkwX3_byUnits_2 : List UInt8 := [3, 181, 1, 72, 33, 42, 180, 0, 181, 97, 66, 132, 5, 1, 167, 255, 199, 33, 138, 28, 184, 0, 177, 138]
abbrev dktX3_byUnits_2 : List UInt8 := dkwX3_byUnits_2 ++ dktX3_byUnits_3
def dkwX3_byUnits_1 : List UInt8 := [42, 42, 180, 0, 17, 16, 60, 27, 104, 21, 5, 96, 49, 28, 182, 1, 29, 154, 0, 7, 4, 167, 0, 4]
abbrev dktX3_byUnits_1 : List UInt8 := dkwX3_byUnits_1 ++ dktX3_byUnits_2
def dkwX3_byUnits_0 : List UInt8 := [9, 66, 3, 54, 5, 21, 5, 42, 180, 0, 7, 27, 46, 162, 0, 52, 42, 42, 180, 1, 72, 154, 0, 23]
abbrev dktX3_byUnits_0 : List UInt8 := dkwX3_byUnits_0 ++ dktX3_byUnits_1
theorem dksX3_byUnits_0 : cX3_byUnits.data.toList.drop 0 = dktX3_byUnits_0 := by decide +kernel
theorem dksX3_byUnits_1 : cX3_byUnits.data.toList.drop 24 = dktX3_byUnits_1 := dk_seg dksX3_byUnits_0 24 rfl rfl
theorem dksX3_byUnits_2 : cX3_byUnits.data.toList.drop 48 = dktX3_byUnits_2 := dk_seg dksX3_byUnits_1 24 rfl rfl
theorem dksX3_byUnits_3 : cX3_byUnits.data.toList.drop 72 = dktX3_byUnits_3 := dk_seg dksX3_byUnits_2 24 rfl rfl
theorem dX3_byUnits_0 : decode cX3_byUnits 0 = .ok (.lconst 0, 1) := dk_9 (dk_at dksX3_byUnits_0 0 rfl rfl)
theorem dX3_byUnits_1 : decode cX3_byUnits 1 = .ok (.lstore_n 3, 1) := dk_66 (dk_at dksX3_byUnits_0 1 rfl rfl)
theorem dX3_byUnits_2 : decode cX3_byUnits 2 = .ok (.iconst 0, 1) := dk_3 (dk_at dksX3_byUnits_0 2 rfl rfl)
theorem dX3_byUnits_3 : decode cX3_byUnits 3 = .ok (.istore 5, 2) := dk_54 5 (dk_at dksX3_byUnits_0 3 rfl rfl)
theorem dX3_byUnits_5 : decode cX3_byUnits 5 = .ok (.iload 5, 2) := dk_21 5 (dk_at dksX3_byUnits_0 5 rfl rfl)
theorem dX3_byUnits_7 : decode cX3_byUnits 7 = .ok (.aload_n 0, 1) := dk_42 (dk_at dksX3_byUnits_0 7 rfl rfl)
theorem dX3_byUnits_8 : decode cX3_byUnits 8 = .ok (.getfield 7, 3) := dk_180 0 7 (dk_at dksX3_byUnits_0 8 rfl rfl)
theorem dX3_byUnits_11 : decode cX3_byUnits 11 = .ok (.iload_n 1, 1) := dk_27 (dk_at dksX3_byUnits_0 11 rfl rfl)
theorem dX3_byUnits_12 : decode cX3_byUnits 12 = .ok (.iaload, 1) := dk_46 (dk_at dksX3_byUnits_0 12 rfl rfl)
theorem dX3_byUnits_13 : decode cX3_byUnits 13 = .ok (.if_icmp .ge 52, 3) := dk_162 0 52 (dk_at dksX3_byUnits_0 13 rfl rfl)
theorem dX3_byUnits_16 : decode cX3_byUnits 16 = .ok (.aload_n 0, 1) := dk_42 (dk_at dksX3_byUnits_0 16 rfl rfl)
theorem dX3_byUnits_17 : decode cX3_byUnits 17 = .ok (.aload_n 0, 1) := dk_42 (dk_at dksX3_byUnits_0 17 rfl rfl)
theorem dX3_byUnits_18 : decode cX3_byUnits 18 = .ok (.getfield 328, 3) := dk_180 1 72 (dk_at dksX3_byUnits_0 18 rfl rfl)
theorem dX3_byUnits_21 : decode cX3_byUnits 21 = .ok (.ifCond .ne 23, 3) := dk_154 0 23 (dk_at dksX3_byUnits_0 21 rfl rfl)
theorem dX3_byUnits_24 : decode cX3_byUnits 24 = .ok (.aload_n 0, 1) := dk_42 (dk_at dksX3_byUnits_1 0 rfl rfl)
theorem dX3_byUnits_25 : decode cX3_byUnits 25 = .ok (.aload_n 0, 1) := dk_42 (dk_at dksX3_byUnits_1 1 rfl rfl)
theorem dX3_byUnits_26 : decode cX3_byUnits 26 = .ok (.getfield 17, 3) := dk_180 0 17 (dk_at dksX3_byUnits_1 2 rfl rfl)
theorem dX3_byUnits_29 : decode cX3_byUnits 29 = .ok (.bipush 60, 2) := dk_16 60 (dk_at dksX3_byUnits_1 5 rfl rfl)
theorem dX3_byUnits_31 : decode cX3_byUnits 31 = .ok (.iload_n 1, 1) := dk_27 (dk_at dksX3_byUnits_1 7 rfl rfl)
theorem dX3_byUnits_32 : decode cX3_byUnits 32 = .ok (.imul, 1) := dk_104 (dk_at dksX3_byUnits_1 8 rfl rfl)
theorem dX3_byUnits_33 : decode cX3_byUnits 33 = .ok (.iload 5, 2) := dk_21 5 (dk_at dksX3_byUnits_1 9 rfl rfl)
theorem dX3_byUnits_35 : decode cX3_byUnits 35 = .ok (.iadd, 1) := dk_96 (dk_at dksX3_byUnits_1 11 rfl rfl)
theorem dX3_byUnits_36 : decode cX3_byUnits 36 = .ok (.daload, 1) := dk_49 (dk_at dksX3_byUnits_1 12 rfl rfl)
theorem dX3_byUnits_37 : decode cX3_byUnits 37 = .ok (.iload_n 2, 1) := dk_28 (dk_at dksX3_byUnits_1 13 rfl rfl)
theorem dX3_byUnits_38 : decode cX3_byUnits 38 = .ok (.invokevirtual 285, 3) := dk_182 1 29 (dk_at dksX3_byUnits_1 14 rfl rfl)
theorem dX3_byUnits_41 : decode cX3_byUnits 41 = .ok (.ifCond .ne 7, 3) := dk_154 0 7 (dk_at dksX3_byUnits_1 17 rfl rfl)
theorem dX3_byUnits_44 : decode cX3_byUnits 44 = .ok (.iconst 1, 1) := dk_4 (dk_at dksX3_byUnits_1 20 rfl rfl)
theorem dX3_byUnits_45 : decode cX3_byUnits 45 = .ok (.goto 4, 3) := dk_167 0 4 (dk_at dksX3_byUnits_1 21 rfl rfl)
theorem dX3_byUnits_48 : decode cX3_byUnits 48 = .ok (.iconst 0, 1) := dk_3 (dk_at dksX3_byUnits_2 0 rfl rfl)
theorem dX3_byUnits_49 : decode cX3_byUnits 49 = .ok (.putfield 328, 3) := dk_181 1 72 (dk_at dksX3_byUnits_2 1 rfl rfl)
theorem dX3_byUnits_52 : decode cX3_byUnits 52 = .ok (.lload_n 3, 1) := dk_33 (dk_at dksX3_byUnits_2 4 rfl rfl)
theorem dX3_byUnits_53 : decode cX3_byUnits 53 = .ok (.aload_n 0, 1) := dk_42 (dk_at dksX3_byUnits_2 5 rfl rfl)
theorem dX3_byUnits_54 : decode cX3_byUnits 54 = .ok (.getfield 181, 3) := dk_180 0 181 (dk_at dksX3_byUnits_2 6 rfl rfl)
theorem dX3_byUnits_57 : decode cX3_byUnits 57 = .ok (.ladd, 1) := dk_97 (dk_at dksX3_byUnits_2 9 rfl rfl)
theorem dX3_byUnits_58 : decode cX3_byUnits 58 = .ok (.lstore_n 3, 1) := dk_66 (dk_at dksX3_byUnits_2 10 rfl rfl)
theorem dX3_byUnits_59 : decode cX3_byUnits 59 = .ok (.iinc 5 1, 3) := dk_132 5 1 (dk_at dksX3_byUnits_2 11 rfl rfl)
theorem dX3_byUnits_62 : decode cX3_byUnits 62 = .ok (.goto (-57), 3) := dk_167 255 199 (dk_at dksX3_byUnits_2 14 rfl rfl)
theorem dX3_byUnits_65 : decode cX3_byUnits 65 = .ok (.lload_n 3, 1) := dk_33 (dk_at dksX3_byUnits_2 17 rfl rfl)
theorem dX3_byUnits_66 : decode cX3_byUnits 66 = .ok (.l2d, 1) := dk_138 (dk_at dksX3_byUnits_2 18 rfl rfl)
theorem dX3_byUnits_67 : decode cX3_byUnits 67 = .ok (.iload_n 2, 1) := dk_28 (dk_at dksX3_byUnits_2 19 rfl rfl)
theorem dX3_byUnits_68 : decode cX3_byUnits 68 = .ok (.invokestatic 177, 3) := dk_184 0 177 (dk_at dksX3_byUnits_2 20 rfl rfl)
theorem dX3_byUnits_71 : decode cX3_byUnits 71 = .ok (.l2d, 1) := dk_138 (dk_at dksX3_byUnits_2 23 rfl rfl)
theorem dX3_byUnits_72 : decode cX3_byUnits 72 = .ok (.ddiv, 1) := dk_111 (dk_at dksX3_byUnits_3 0 rfl rfl)
theorem dX3_byUnits_73 : decode cX3_byUnits 73 = .ok (.dstore 5, 2) := dk_57 5 (dk_at dksX3_byUnits_3 1 rfl rfl)
theorem dX3_byUnits_75 : decode cX3_byUnits 75 = .ok (.aload_n 0, 1) := dk_42 (dk_at dksX3_byUnits_3 3 rfl rfl)
theorem dX3_byUnits_76 : decode cX3_byUnits 76 = .ok (.getfield 167, 3) := dk_180 0 167 (dk_at dksX3_byUnits_3 4 rfl rfl)
theorem dX3_byUnits_79 : decode cX3_byUnits 79 = .ok (.ifCond .eq 8, 3) := dk_153 0 8 (dk_at dksX3_byUnits_3 7 rfl rfl)
theorem dX3_byUnits_82 : decode cX3_byUnits 82 = .ok (.dload 5, 2) := dk_24 5 (dk_at dksX3_byUnits_3 10 rfl rfl)
theorem dX3_byUnits_84 : decode cX3_byUnits 84 = .ok (.goto 7, 3) := dk_167 0 7 (dk_at dksX3_byUnits_3 12 rfl rfl)
theorem dX3_byUnits_87 : decode cX3_byUnits 87 = .ok (.dload 5, 2) := dk_24 5 (dk_at dksX3_byUnits_3 15 rfl rfl)
theorem dX3_byUnits_89 : decode cX3_byUnits 89 = .ok (.d2f, 1) := dk_144 (dk_at dksX3_byUnits_3 17 rfl rfl)
theorem dX3_byUnits_90 : decode cX3_byUnits 90 = .ok (.f2d, 1) := dk_141 (dk_at dksX3_byUnits_3 18 rfl rfl)
theorem dX3_byUnits_91 : decode cX3_byUnits 91 = .ok (.dreturn, 1) := dk_175 (dk_at dksX3_byUnits_3 19 rfl rfl)
abbrev cX3_halves : ByteArray := prog_27_method_56_code
def yX3_halves : MethodName := ⟨RX3, "halves", "(I)D"⟩
def dkwX3_halves_9 : List UInt8 := [41, 182, 1, 60, 74, 132, 2, 255, 167, 255, 66, 41, 175]
abbrev dktX3_halves_9 : List UInt8 := dkwX3_halves_9 ++ []
def dkwX3_halves_8 : List UInt8 := [180, 0, 88, 21, 5, 92, 46, 4, 96, 79, 132, 2, 1, 167, 0, 19, 42, 42, 180, 0, 91, 21, 5, 49]
abbrev dktX3_halves_8 : List UInt8 := dkwX3_halves_8 ++ dktX3_halves_9
def dkwX3_halves_7 : List UInt8 := [21, 6, 167, 0, 13, 42, 180, 0, 85, 21, 5, 46, 21, 6, 100, 79, 42, 180, 0, 88, 28, 3, 79, 42]
abbrev dktX3_halves_7 : List UInt8 := dkwX3_halves_7 ++ dktX3_halves_8
def dkwX3_halves_6 : List UInt8 := [3, 167, 0, 5, 21, 6, 96, 79, 42, 180, 0, 85, 28, 42, 180, 0, 88, 21, 5, 46, 154, 0, 8]
abbrev dktX3_halves_6 : List UInt8 := dkwX3_halves_6 ++ dktX3_halves_7
def dkwX3_halves_5 : List UInt8 := [14, 82, 42, 180, 0, 82, 28, 42, 180, 0, 82, 21, 5, 46, 42, 180, 0, 88, 21, 5, 46, 154, 0, 7]
abbrev dktX3_halves_5 : List UInt8 := dkwX3_halves_5 ++ dktX3_halves_6
def dkwX3_halves_4 : List UInt8 := [162, 0, 111, 42, 180, 0, 91, 21, 5, 42, 180, 0, 88, 21, 5, 46, 4, 160, 0, 7, 41, 167, 0, 4]
abbrev dktX3_halves_4 : List UInt8 := dkwX3_halves_4 ++ dktX3_halves_5
def dkwX3_halves_3 : List UInt8 := [180, 0, 82, 21, 5, 46, 96, 49, 74, 132, 2, 255, 167, 0, 138, 42, 180, 0, 88, 21, 5, 46, 5]
abbrev dktX3_halves_3 : List UInt8 := dkwX3_halves_3 ++ dktX3_halves_4
def dkwX3_halves_2 : List UInt8 := [5, 108, 54, 6, 42, 180, 0, 85, 21, 5, 46, 4, 160, 0, 27, 42, 180, 0, 17, 16, 60, 27, 104, 42]
abbrev dktX3_halves_2 : List UInt8 := dkwX3_halves_2 ++ dktX3_halves_3
def dkwX3_halves_1 : List UInt8 := [180, 0, 88, 3, 3, 79, 14, 74, 28, 158, 0, 192, 28, 4, 100, 54, 5, 42, 180, 0, 85, 21, 5, 46]
abbrev dktX3_halves_1 : List UInt8 := dkwX3_halves_1 ++ dktX3_halves_2
def dkwX3_halves_0 : List UInt8 := [4, 61, 42, 180, 0, 82, 3, 3, 79, 42, 180, 0, 85, 3, 42, 180, 0, 7, 27, 46, 79, 42]
abbrev dktX3_halves_0 : List UInt8 := dkwX3_halves_0 ++ dktX3_halves_1
theorem dksX3_halves_0 : cX3_halves.data.toList.drop 0 = dktX3_halves_0 := by decide +kernel
theorem dksX3_halves_1 : cX3_halves.data.toList.drop 22 = dktX3_halves_1 := dk_seg dksX3_halves_0 22 rfl rfl
theorem dksX3_halves_2 : cX3_halves.data.toList.drop 46 = dktX3_halves_2 := dk_seg dksX3_halves_1 24 rfl rfl
theorem dksX3_halves_3 : cX3_halves.data.toList.drop 70 = dktX3_halves_3 := dk_seg dksX3_halves_2 24 rfl rfl
theorem dksX3_halves_4 : cX3_halves.data.toList.drop 93 = dktX3_halves_4 := dk_seg dksX3_halves_3 23 rfl rfl
theorem dksX3_halves_5 : cX3_halves.data.toList.drop 117 = dktX3_halves_5 := dk_seg dksX3_halves_4 24 rfl rfl
theorem dksX3_halves_6 : cX3_halves.data.toList.drop 141 = dktX3_halves_6 := dk_seg dksX3_halves_5 24 rfl rfl
theorem dksX3_halves_7 : cX3_halves.data.toList.drop 164 = dktX3_halves_7 := dk_seg dksX3_halves_6 23 rfl rfl
theorem dksX3_halves_8 : cX3_halves.data.toList.drop 188 = dktX3_halves_8 := dk_seg dksX3_halves_7 24 rfl rfl
theorem dksX3_halves_9 : cX3_halves.data.toList.drop 212 = dktX3_halves_9 := dk_seg dksX3_halves_8 24 rfl rfl
theorem dX3_halves_0 : decode cX3_halves 0 = .ok (.iconst 1, 1) := dk_4 (dk_at dksX3_halves_0 0 rfl rfl)
theorem dX3_halves_1 : decode cX3_halves 1 = .ok (.istore_n 2, 1) := dk_61 (dk_at dksX3_halves_0 1 rfl rfl)
theorem dX3_halves_2 : decode cX3_halves 2 = .ok (.aload_n 0, 1) := dk_42 (dk_at dksX3_halves_0 2 rfl rfl)
theorem dX3_halves_3 : decode cX3_halves 3 = .ok (.getfield 82, 3) := dk_180 0 82 (dk_at dksX3_halves_0 3 rfl rfl)
theorem dX3_halves_6 : decode cX3_halves 6 = .ok (.iconst 0, 1) := dk_3 (dk_at dksX3_halves_0 6 rfl rfl)
theorem dX3_halves_7 : decode cX3_halves 7 = .ok (.iconst 0, 1) := dk_3 (dk_at dksX3_halves_0 7 rfl rfl)
theorem dX3_halves_8 : decode cX3_halves 8 = .ok (.iastore, 1) := dk_79 (dk_at dksX3_halves_0 8 rfl rfl)
theorem dX3_halves_9 : decode cX3_halves 9 = .ok (.aload_n 0, 1) := dk_42 (dk_at dksX3_halves_0 9 rfl rfl)
theorem dX3_halves_10 : decode cX3_halves 10 = .ok (.getfield 85, 3) := dk_180 0 85 (dk_at dksX3_halves_0 10 rfl rfl)
theorem dX3_halves_13 : decode cX3_halves 13 = .ok (.iconst 0, 1) := dk_3 (dk_at dksX3_halves_0 13 rfl rfl)
theorem dX3_halves_14 : decode cX3_halves 14 = .ok (.aload_n 0, 1) := dk_42 (dk_at dksX3_halves_0 14 rfl rfl)
theorem dX3_halves_15 : decode cX3_halves 15 = .ok (.getfield 7, 3) := dk_180 0 7 (dk_at dksX3_halves_0 15 rfl rfl)
theorem dX3_halves_18 : decode cX3_halves 18 = .ok (.iload_n 1, 1) := dk_27 (dk_at dksX3_halves_0 18 rfl rfl)
theorem dX3_halves_19 : decode cX3_halves 19 = .ok (.iaload, 1) := dk_46 (dk_at dksX3_halves_0 19 rfl rfl)
theorem dX3_halves_20 : decode cX3_halves 20 = .ok (.iastore, 1) := dk_79 (dk_at dksX3_halves_0 20 rfl rfl)
theorem dX3_halves_21 : decode cX3_halves 21 = .ok (.aload_n 0, 1) := dk_42 (dk_at dksX3_halves_0 21 rfl rfl)
theorem dX3_halves_22 : decode cX3_halves 22 = .ok (.getfield 88, 3) := dk_180 0 88 (dk_at dksX3_halves_1 0 rfl rfl)
theorem dX3_halves_25 : decode cX3_halves 25 = .ok (.iconst 0, 1) := dk_3 (dk_at dksX3_halves_1 3 rfl rfl)
theorem dX3_halves_26 : decode cX3_halves 26 = .ok (.iconst 0, 1) := dk_3 (dk_at dksX3_halves_1 4 rfl rfl)
theorem dX3_halves_27 : decode cX3_halves 27 = .ok (.iastore, 1) := dk_79 (dk_at dksX3_halves_1 5 rfl rfl)
theorem dX3_halves_28 : decode cX3_halves 28 = .ok (.dconst 0, 1) := dk_14 (dk_at dksX3_halves_1 6 rfl rfl)
theorem dX3_halves_29 : decode cX3_halves 29 = .ok (.dstore_n 3, 1) := dk_74 (dk_at dksX3_halves_1 7 rfl rfl)
theorem dX3_halves_30 : decode cX3_halves 30 = .ok (.iload_n 2, 1) := dk_28 (dk_at dksX3_halves_1 8 rfl rfl)
theorem dX3_halves_31 : decode cX3_halves 31 = .ok (.ifCond .le 192, 3) := dk_158 0 192 (dk_at dksX3_halves_1 9 rfl rfl)
theorem dX3_halves_34 : decode cX3_halves 34 = .ok (.iload_n 2, 1) := dk_28 (dk_at dksX3_halves_1 12 rfl rfl)
theorem dX3_halves_35 : decode cX3_halves 35 = .ok (.iconst 1, 1) := dk_4 (dk_at dksX3_halves_1 13 rfl rfl)
theorem dX3_halves_36 : decode cX3_halves 36 = .ok (.isub, 1) := dk_100 (dk_at dksX3_halves_1 14 rfl rfl)
theorem dX3_halves_37 : decode cX3_halves 37 = .ok (.istore 5, 2) := dk_54 5 (dk_at dksX3_halves_1 15 rfl rfl)
theorem dX3_halves_39 : decode cX3_halves 39 = .ok (.aload_n 0, 1) := dk_42 (dk_at dksX3_halves_1 17 rfl rfl)
theorem dX3_halves_40 : decode cX3_halves 40 = .ok (.getfield 85, 3) := dk_180 0 85 (dk_at dksX3_halves_1 18 rfl rfl)
theorem dX3_halves_43 : decode cX3_halves 43 = .ok (.iload 5, 2) := dk_21 5 (dk_at dksX3_halves_1 21 rfl rfl)
theorem dX3_halves_45 : decode cX3_halves 45 = .ok (.iaload, 1) := dk_46 (dk_at dksX3_halves_1 23 rfl rfl)
theorem dX3_halves_46 : decode cX3_halves 46 = .ok (.iconst 2, 1) := dk_5 (dk_at dksX3_halves_2 0 rfl rfl)
theorem dX3_halves_47 : decode cX3_halves 47 = .ok (.idiv, 1) := dk_108 (dk_at dksX3_halves_2 1 rfl rfl)
theorem dX3_halves_48 : decode cX3_halves 48 = .ok (.istore 6, 2) := dk_54 6 (dk_at dksX3_halves_2 2 rfl rfl)
theorem dX3_halves_50 : decode cX3_halves 50 = .ok (.aload_n 0, 1) := dk_42 (dk_at dksX3_halves_2 4 rfl rfl)
theorem dX3_halves_51 : decode cX3_halves 51 = .ok (.getfield 85, 3) := dk_180 0 85 (dk_at dksX3_halves_2 5 rfl rfl)
theorem dX3_halves_54 : decode cX3_halves 54 = .ok (.iload 5, 2) := dk_21 5 (dk_at dksX3_halves_2 8 rfl rfl)
theorem dX3_halves_56 : decode cX3_halves 56 = .ok (.iaload, 1) := dk_46 (dk_at dksX3_halves_2 10 rfl rfl)
theorem dX3_halves_57 : decode cX3_halves 57 = .ok (.iconst 1, 1) := dk_4 (dk_at dksX3_halves_2 11 rfl rfl)
theorem dX3_halves_58 : decode cX3_halves 58 = .ok (.if_icmp .ne 27, 3) := dk_160 0 27 (dk_at dksX3_halves_2 12 rfl rfl)
theorem dX3_halves_61 : decode cX3_halves 61 = .ok (.aload_n 0, 1) := dk_42 (dk_at dksX3_halves_2 15 rfl rfl)
theorem dX3_halves_62 : decode cX3_halves 62 = .ok (.getfield 17, 3) := dk_180 0 17 (dk_at dksX3_halves_2 16 rfl rfl)
theorem dX3_halves_65 : decode cX3_halves 65 = .ok (.bipush 60, 2) := dk_16 60 (dk_at dksX3_halves_2 19 rfl rfl)
theorem dX3_halves_67 : decode cX3_halves 67 = .ok (.iload_n 1, 1) := dk_27 (dk_at dksX3_halves_2 21 rfl rfl)
theorem dX3_halves_68 : decode cX3_halves 68 = .ok (.imul, 1) := dk_104 (dk_at dksX3_halves_2 22 rfl rfl)
theorem dX3_halves_69 : decode cX3_halves 69 = .ok (.aload_n 0, 1) := dk_42 (dk_at dksX3_halves_2 23 rfl rfl)
theorem dX3_halves_70 : decode cX3_halves 70 = .ok (.getfield 82, 3) := dk_180 0 82 (dk_at dksX3_halves_3 0 rfl rfl)
theorem dX3_halves_73 : decode cX3_halves 73 = .ok (.iload 5, 2) := dk_21 5 (dk_at dksX3_halves_3 3 rfl rfl)
theorem dX3_halves_75 : decode cX3_halves 75 = .ok (.iaload, 1) := dk_46 (dk_at dksX3_halves_3 5 rfl rfl)
theorem dX3_halves_76 : decode cX3_halves 76 = .ok (.iadd, 1) := dk_96 (dk_at dksX3_halves_3 6 rfl rfl)
theorem dX3_halves_77 : decode cX3_halves 77 = .ok (.daload, 1) := dk_49 (dk_at dksX3_halves_3 7 rfl rfl)
theorem dX3_halves_78 : decode cX3_halves 78 = .ok (.dstore_n 3, 1) := dk_74 (dk_at dksX3_halves_3 8 rfl rfl)
theorem dX3_halves_79 : decode cX3_halves 79 = .ok (.iinc 2 (-1), 3) := dk_132 2 255 (dk_at dksX3_halves_3 9 rfl rfl)
theorem dX3_halves_82 : decode cX3_halves 82 = .ok (.goto 138, 3) := dk_167 0 138 (dk_at dksX3_halves_3 12 rfl rfl)
theorem dX3_halves_85 : decode cX3_halves 85 = .ok (.aload_n 0, 1) := dk_42 (dk_at dksX3_halves_3 15 rfl rfl)
theorem dX3_halves_86 : decode cX3_halves 86 = .ok (.getfield 88, 3) := dk_180 0 88 (dk_at dksX3_halves_3 16 rfl rfl)
theorem dX3_halves_89 : decode cX3_halves 89 = .ok (.iload 5, 2) := dk_21 5 (dk_at dksX3_halves_3 19 rfl rfl)
theorem dX3_halves_91 : decode cX3_halves 91 = .ok (.iaload, 1) := dk_46 (dk_at dksX3_halves_3 21 rfl rfl)
theorem dX3_halves_92 : decode cX3_halves 92 = .ok (.iconst 2, 1) := dk_5 (dk_at dksX3_halves_3 22 rfl rfl)
theorem dX3_halves_93 : decode cX3_halves 93 = .ok (.if_icmp .ge 111, 3) := dk_162 0 111 (dk_at dksX3_halves_4 0 rfl rfl)
theorem dX3_halves_96 : decode cX3_halves 96 = .ok (.aload_n 0, 1) := dk_42 (dk_at dksX3_halves_4 3 rfl rfl)
theorem dX3_halves_97 : decode cX3_halves 97 = .ok (.getfield 91, 3) := dk_180 0 91 (dk_at dksX3_halves_4 4 rfl rfl)
theorem dX3_halves_100 : decode cX3_halves 100 = .ok (.iload 5, 2) := dk_21 5 (dk_at dksX3_halves_4 7 rfl rfl)
theorem dX3_halves_102 : decode cX3_halves 102 = .ok (.aload_n 0, 1) := dk_42 (dk_at dksX3_halves_4 9 rfl rfl)
theorem dX3_halves_103 : decode cX3_halves 103 = .ok (.getfield 88, 3) := dk_180 0 88 (dk_at dksX3_halves_4 10 rfl rfl)
theorem dX3_halves_106 : decode cX3_halves 106 = .ok (.iload 5, 2) := dk_21 5 (dk_at dksX3_halves_4 13 rfl rfl)
theorem dX3_halves_108 : decode cX3_halves 108 = .ok (.iaload, 1) := dk_46 (dk_at dksX3_halves_4 15 rfl rfl)
theorem dX3_halves_109 : decode cX3_halves 109 = .ok (.iconst 1, 1) := dk_4 (dk_at dksX3_halves_4 16 rfl rfl)
theorem dX3_halves_110 : decode cX3_halves 110 = .ok (.if_icmp .ne 7, 3) := dk_160 0 7 (dk_at dksX3_halves_4 17 rfl rfl)
theorem dX3_halves_113 : decode cX3_halves 113 = .ok (.dload_n 3, 1) := dk_41 (dk_at dksX3_halves_4 20 rfl rfl)
theorem dX3_halves_114 : decode cX3_halves 114 = .ok (.goto 4, 3) := dk_167 0 4 (dk_at dksX3_halves_4 21 rfl rfl)
theorem dX3_halves_117 : decode cX3_halves 117 = .ok (.dconst 0, 1) := dk_14 (dk_at dksX3_halves_5 0 rfl rfl)
theorem dX3_halves_118 : decode cX3_halves 118 = .ok (.dastore, 1) := dk_82 (dk_at dksX3_halves_5 1 rfl rfl)
theorem dX3_halves_119 : decode cX3_halves 119 = .ok (.aload_n 0, 1) := dk_42 (dk_at dksX3_halves_5 2 rfl rfl)
theorem dX3_halves_120 : decode cX3_halves 120 = .ok (.getfield 82, 3) := dk_180 0 82 (dk_at dksX3_halves_5 3 rfl rfl)
theorem dX3_halves_123 : decode cX3_halves 123 = .ok (.iload_n 2, 1) := dk_28 (dk_at dksX3_halves_5 6 rfl rfl)
theorem dX3_halves_124 : decode cX3_halves 124 = .ok (.aload_n 0, 1) := dk_42 (dk_at dksX3_halves_5 7 rfl rfl)
theorem dX3_halves_125 : decode cX3_halves 125 = .ok (.getfield 82, 3) := dk_180 0 82 (dk_at dksX3_halves_5 8 rfl rfl)
theorem dX3_halves_128 : decode cX3_halves 128 = .ok (.iload 5, 2) := dk_21 5 (dk_at dksX3_halves_5 11 rfl rfl)
theorem dX3_halves_130 : decode cX3_halves 130 = .ok (.iaload, 1) := dk_46 (dk_at dksX3_halves_5 13 rfl rfl)
theorem dX3_halves_131 : decode cX3_halves 131 = .ok (.aload_n 0, 1) := dk_42 (dk_at dksX3_halves_5 14 rfl rfl)
theorem dX3_halves_132 : decode cX3_halves 132 = .ok (.getfield 88, 3) := dk_180 0 88 (dk_at dksX3_halves_5 15 rfl rfl)
theorem dX3_halves_135 : decode cX3_halves 135 = .ok (.iload 5, 2) := dk_21 5 (dk_at dksX3_halves_5 18 rfl rfl)
theorem dX3_halves_137 : decode cX3_halves 137 = .ok (.iaload, 1) := dk_46 (dk_at dksX3_halves_5 20 rfl rfl)
theorem dX3_halves_138 : decode cX3_halves 138 = .ok (.ifCond .ne 7, 3) := dk_154 0 7 (dk_at dksX3_halves_5 21 rfl rfl)
theorem dX3_halves_141 : decode cX3_halves 141 = .ok (.iconst 0, 1) := dk_3 (dk_at dksX3_halves_6 0 rfl rfl)
theorem dX3_halves_142 : decode cX3_halves 142 = .ok (.goto 5, 3) := dk_167 0 5 (dk_at dksX3_halves_6 1 rfl rfl)
theorem dX3_halves_145 : decode cX3_halves 145 = .ok (.iload 6, 2) := dk_21 6 (dk_at dksX3_halves_6 4 rfl rfl)
theorem dX3_halves_147 : decode cX3_halves 147 = .ok (.iadd, 1) := dk_96 (dk_at dksX3_halves_6 6 rfl rfl)
theorem dX3_halves_148 : decode cX3_halves 148 = .ok (.iastore, 1) := dk_79 (dk_at dksX3_halves_6 7 rfl rfl)
theorem dX3_halves_149 : decode cX3_halves 149 = .ok (.aload_n 0, 1) := dk_42 (dk_at dksX3_halves_6 8 rfl rfl)
theorem dX3_halves_150 : decode cX3_halves 150 = .ok (.getfield 85, 3) := dk_180 0 85 (dk_at dksX3_halves_6 9 rfl rfl)
theorem dX3_halves_153 : decode cX3_halves 153 = .ok (.iload_n 2, 1) := dk_28 (dk_at dksX3_halves_6 12 rfl rfl)
theorem dX3_halves_154 : decode cX3_halves 154 = .ok (.aload_n 0, 1) := dk_42 (dk_at dksX3_halves_6 13 rfl rfl)
theorem dX3_halves_155 : decode cX3_halves 155 = .ok (.getfield 88, 3) := dk_180 0 88 (dk_at dksX3_halves_6 14 rfl rfl)
theorem dX3_halves_158 : decode cX3_halves 158 = .ok (.iload 5, 2) := dk_21 5 (dk_at dksX3_halves_6 17 rfl rfl)
theorem dX3_halves_160 : decode cX3_halves 160 = .ok (.iaload, 1) := dk_46 (dk_at dksX3_halves_6 19 rfl rfl)
theorem dX3_halves_161 : decode cX3_halves 161 = .ok (.ifCond .ne 8, 3) := dk_154 0 8 (dk_at dksX3_halves_6 20 rfl rfl)
theorem dX3_halves_164 : decode cX3_halves 164 = .ok (.iload 6, 2) := dk_21 6 (dk_at dksX3_halves_7 0 rfl rfl)
theorem dX3_halves_166 : decode cX3_halves 166 = .ok (.goto 13, 3) := dk_167 0 13 (dk_at dksX3_halves_7 2 rfl rfl)
theorem dX3_halves_169 : decode cX3_halves 169 = .ok (.aload_n 0, 1) := dk_42 (dk_at dksX3_halves_7 5 rfl rfl)
theorem dX3_halves_170 : decode cX3_halves 170 = .ok (.getfield 85, 3) := dk_180 0 85 (dk_at dksX3_halves_7 6 rfl rfl)
theorem dX3_halves_173 : decode cX3_halves 173 = .ok (.iload 5, 2) := dk_21 5 (dk_at dksX3_halves_7 9 rfl rfl)
theorem dX3_halves_175 : decode cX3_halves 175 = .ok (.iaload, 1) := dk_46 (dk_at dksX3_halves_7 11 rfl rfl)
theorem dX3_halves_176 : decode cX3_halves 176 = .ok (.iload 6, 2) := dk_21 6 (dk_at dksX3_halves_7 12 rfl rfl)
theorem dX3_halves_178 : decode cX3_halves 178 = .ok (.isub, 1) := dk_100 (dk_at dksX3_halves_7 14 rfl rfl)
theorem dX3_halves_179 : decode cX3_halves 179 = .ok (.iastore, 1) := dk_79 (dk_at dksX3_halves_7 15 rfl rfl)
theorem dX3_halves_180 : decode cX3_halves 180 = .ok (.aload_n 0, 1) := dk_42 (dk_at dksX3_halves_7 16 rfl rfl)
theorem dX3_halves_181 : decode cX3_halves 181 = .ok (.getfield 88, 3) := dk_180 0 88 (dk_at dksX3_halves_7 17 rfl rfl)
theorem dX3_halves_184 : decode cX3_halves 184 = .ok (.iload_n 2, 1) := dk_28 (dk_at dksX3_halves_7 20 rfl rfl)
theorem dX3_halves_185 : decode cX3_halves 185 = .ok (.iconst 0, 1) := dk_3 (dk_at dksX3_halves_7 21 rfl rfl)
theorem dX3_halves_186 : decode cX3_halves 186 = .ok (.iastore, 1) := dk_79 (dk_at dksX3_halves_7 22 rfl rfl)
theorem dX3_halves_187 : decode cX3_halves 187 = .ok (.aload_n 0, 1) := dk_42 (dk_at dksX3_halves_7 23 rfl rfl)
theorem dX3_halves_188 : decode cX3_halves 188 = .ok (.getfield 88, 3) := dk_180 0 88 (dk_at dksX3_halves_8 0 rfl rfl)
theorem dX3_halves_191 : decode cX3_halves 191 = .ok (.iload 5, 2) := dk_21 5 (dk_at dksX3_halves_8 3 rfl rfl)
theorem dX3_halves_193 : decode cX3_halves 193 = .ok (.dup2, 1) := dk_92 (dk_at dksX3_halves_8 5 rfl rfl)
theorem dX3_halves_194 : decode cX3_halves 194 = .ok (.iaload, 1) := dk_46 (dk_at dksX3_halves_8 6 rfl rfl)
theorem dX3_halves_195 : decode cX3_halves 195 = .ok (.iconst 1, 1) := dk_4 (dk_at dksX3_halves_8 7 rfl rfl)
theorem dX3_halves_196 : decode cX3_halves 196 = .ok (.iadd, 1) := dk_96 (dk_at dksX3_halves_8 8 rfl rfl)
theorem dX3_halves_197 : decode cX3_halves 197 = .ok (.iastore, 1) := dk_79 (dk_at dksX3_halves_8 9 rfl rfl)
theorem dX3_halves_198 : decode cX3_halves 198 = .ok (.iinc 2 1, 3) := dk_132 2 1 (dk_at dksX3_halves_8 10 rfl rfl)
theorem dX3_halves_201 : decode cX3_halves 201 = .ok (.goto 19, 3) := dk_167 0 19 (dk_at dksX3_halves_8 13 rfl rfl)
theorem dX3_halves_204 : decode cX3_halves 204 = .ok (.aload_n 0, 1) := dk_42 (dk_at dksX3_halves_8 16 rfl rfl)
theorem dX3_halves_205 : decode cX3_halves 205 = .ok (.aload_n 0, 1) := dk_42 (dk_at dksX3_halves_8 17 rfl rfl)
theorem dX3_halves_206 : decode cX3_halves 206 = .ok (.getfield 91, 3) := dk_180 0 91 (dk_at dksX3_halves_8 18 rfl rfl)
theorem dX3_halves_209 : decode cX3_halves 209 = .ok (.iload 5, 2) := dk_21 5 (dk_at dksX3_halves_8 21 rfl rfl)
theorem dX3_halves_211 : decode cX3_halves 211 = .ok (.daload, 1) := dk_49 (dk_at dksX3_halves_8 23 rfl rfl)
theorem dX3_halves_212 : decode cX3_halves 212 = .ok (.dload_n 3, 1) := dk_41 (dk_at dksX3_halves_9 0 rfl rfl)
theorem dX3_halves_213 : decode cX3_halves 213 = .ok (.invokevirtual 316, 3) := dk_182 1 60 (dk_at dksX3_halves_9 1 rfl rfl)
theorem dX3_halves_216 : decode cX3_halves 216 = .ok (.dstore_n 3, 1) := dk_74 (dk_at dksX3_halves_9 4 rfl rfl)
theorem dX3_halves_217 : decode cX3_halves 217 = .ok (.iinc 2 (-1), 3) := dk_132 2 255 (dk_at dksX3_halves_9 5 rfl rfl)
theorem dX3_halves_220 : decode cX3_halves 220 = .ok (.goto (-190), 3) := dk_167 255 66 (dk_at dksX3_halves_9 8 rfl rfl)
theorem dX3_halves_223 : decode cX3_halves 223 = .ok (.dload_n 3, 1) := dk_41 (dk_at dksX3_halves_9 11 rfl rfl)
theorem dX3_halves_224 : decode cX3_halves 224 = .ok (.dreturn, 1) := dk_175 (dk_at dksX3_halves_9 12 rfl rfl)
abbrev cX3_adds : ByteArray := prog_27_method_52_code
def yX3_adds : MethodName := ⟨RX3, "adds", "(DD)D"⟩
def dkwX3_adds_0 : List UInt8 := [42, 39, 41, 42, 39, 41, 182, 1, 44, 182, 1, 47, 175]
abbrev dktX3_adds_0 : List UInt8 := dkwX3_adds_0 ++ []
theorem dksX3_adds_0 : cX3_adds.data.toList.drop 0 = dktX3_adds_0 := by decide +kernel
theorem dX3_adds_0 : decode cX3_adds 0 = .ok (.aload_n 0, 1) := dk_42 (dk_at dksX3_adds_0 0 rfl rfl)
theorem dX3_adds_1 : decode cX3_adds 1 = .ok (.dload_n 1, 1) := dk_39 (dk_at dksX3_adds_0 1 rfl rfl)
theorem dX3_adds_2 : decode cX3_adds 2 = .ok (.dload_n 3, 1) := dk_41 (dk_at dksX3_adds_0 2 rfl rfl)
theorem dX3_adds_3 : decode cX3_adds 3 = .ok (.aload_n 0, 1) := dk_42 (dk_at dksX3_adds_0 3 rfl rfl)
theorem dX3_adds_4 : decode cX3_adds 4 = .ok (.dload_n 1, 1) := dk_39 (dk_at dksX3_adds_0 4 rfl rfl)
theorem dX3_adds_5 : decode cX3_adds 5 = .ok (.dload_n 3, 1) := dk_41 (dk_at dksX3_adds_0 5 rfl rfl)
theorem dX3_adds_6 : decode cX3_adds 6 = .ok (.invokevirtual 300, 3) := dk_182 1 44 (dk_at dksX3_adds_0 6 rfl rfl)
theorem dX3_adds_9 : decode cX3_adds 9 = .ok (.invokevirtual 303, 3) := dk_182 1 47 (dk_at dksX3_adds_0 9 rfl rfl)
theorem dX3_adds_12 : decode cX3_adds 12 = .ok (.dreturn, 1) := dk_175 (dk_at dksX3_adds_0 12 rfl rfl)
abbrev cX3_sum : ByteArray := prog_27_method_23_code
def yX3_sum : MethodName := ⟨RX3, "sum", "(DD)D"⟩
def dkwX3_sum_0 : List UInt8 := [42, 180, 0, 167, 153, 0, 9, 39, 41, 99, 167, 0, 9, 39, 144, 41, 144, 98, 141, 175]
abbrev dktX3_sum_0 : List UInt8 := dkwX3_sum_0 ++ []
theorem dksX3_sum_0 : cX3_sum.data.toList.drop 0 = dktX3_sum_0 := by decide +kernel
theorem dX3_sum_0 : decode cX3_sum 0 = .ok (.aload_n 0, 1) := dk_42 (dk_at dksX3_sum_0 0 rfl rfl)
theorem dX3_sum_1 : decode cX3_sum 1 = .ok (.getfield 167, 3) := dk_180 0 167 (dk_at dksX3_sum_0 1 rfl rfl)
theorem dX3_sum_4 : decode cX3_sum 4 = .ok (.ifCond .eq 9, 3) := dk_153 0 9 (dk_at dksX3_sum_0 4 rfl rfl)
theorem dX3_sum_7 : decode cX3_sum 7 = .ok (.dload_n 1, 1) := dk_39 (dk_at dksX3_sum_0 7 rfl rfl)
theorem dX3_sum_8 : decode cX3_sum 8 = .ok (.dload_n 3, 1) := dk_41 (dk_at dksX3_sum_0 8 rfl rfl)
theorem dX3_sum_9 : decode cX3_sum 9 = .ok (.dadd, 1) := dk_99 (dk_at dksX3_sum_0 9 rfl rfl)
theorem dX3_sum_10 : decode cX3_sum 10 = .ok (.goto 9, 3) := dk_167 0 9 (dk_at dksX3_sum_0 10 rfl rfl)
theorem dX3_sum_13 : decode cX3_sum 13 = .ok (.dload_n 1, 1) := dk_39 (dk_at dksX3_sum_0 13 rfl rfl)
theorem dX3_sum_14 : decode cX3_sum 14 = .ok (.d2f, 1) := dk_144 (dk_at dksX3_sum_0 14 rfl rfl)
theorem dX3_sum_15 : decode cX3_sum 15 = .ok (.dload_n 3, 1) := dk_41 (dk_at dksX3_sum_0 15 rfl rfl)
theorem dX3_sum_16 : decode cX3_sum 16 = .ok (.d2f, 1) := dk_144 (dk_at dksX3_sum_0 16 rfl rfl)
theorem dX3_sum_17 : decode cX3_sum 17 = .ok (.fadd, 1) := dk_98 (dk_at dksX3_sum_0 17 rfl rfl)
theorem dX3_sum_18 : decode cX3_sum 18 = .ok (.f2d, 1) := dk_141 (dk_at dksX3_sum_0 18 rfl rfl)
theorem dX3_sum_19 : decode cX3_sum 19 = .ok (.dreturn, 1) := dk_175 (dk_at dksX3_sum_0 19 rfl rfl)
abbrev cX3_stepped : ByteArray := prog_27_method_51_code
def yX3_stepped : MethodName := ⟨RX3, "stepped", "(DDD)D"⟩
def dkwX3_stepped_2 : List UInt8 := [180, 1, 41, 96, 24, 5, 82, 42, 89, 180, 1, 41, 4, 96, 181, 1, 41, 24, 5, 175]
abbrev dktX3_stepped_2 : List UInt8 := dkwX3_stepped_2 ++ []
def dkwX3_stepped_1 : List UInt8 := [180, 0, 48, 42, 180, 1, 38, 42, 180, 1, 41, 96, 41, 82, 42, 180, 0, 51, 42, 180, 1, 38, 42]
abbrev dktX3_stepped_1 : List UInt8 := dkwX3_stepped_1 ++ dktX3_stepped_2
def dkwX3_stepped_0 : List UInt8 := [42, 180, 1, 35, 153, 0, 49, 42, 180, 0, 45, 42, 180, 1, 38, 42, 180, 1, 41, 96, 39, 82, 42]
abbrev dktX3_stepped_0 : List UInt8 := dkwX3_stepped_0 ++ dktX3_stepped_1
theorem dksX3_stepped_0 : cX3_stepped.data.toList.drop 0 = dktX3_stepped_0 := by decide +kernel
theorem dksX3_stepped_1 : cX3_stepped.data.toList.drop 23 = dktX3_stepped_1 := dk_seg dksX3_stepped_0 23 rfl rfl
theorem dksX3_stepped_2 : cX3_stepped.data.toList.drop 46 = dktX3_stepped_2 := dk_seg dksX3_stepped_1 23 rfl rfl
theorem dX3_stepped_0 : decode cX3_stepped 0 = .ok (.aload_n 0, 1) := dk_42 (dk_at dksX3_stepped_0 0 rfl rfl)
theorem dX3_stepped_1 : decode cX3_stepped 1 = .ok (.getfield 291, 3) := dk_180 1 35 (dk_at dksX3_stepped_0 1 rfl rfl)
theorem dX3_stepped_4 : decode cX3_stepped 4 = .ok (.ifCond .eq 49, 3) := dk_153 0 49 (dk_at dksX3_stepped_0 4 rfl rfl)
theorem dX3_stepped_7 : decode cX3_stepped 7 = .ok (.aload_n 0, 1) := dk_42 (dk_at dksX3_stepped_0 7 rfl rfl)
theorem dX3_stepped_8 : decode cX3_stepped 8 = .ok (.getfield 45, 3) := dk_180 0 45 (dk_at dksX3_stepped_0 8 rfl rfl)
theorem dX3_stepped_11 : decode cX3_stepped 11 = .ok (.aload_n 0, 1) := dk_42 (dk_at dksX3_stepped_0 11 rfl rfl)
theorem dX3_stepped_12 : decode cX3_stepped 12 = .ok (.getfield 294, 3) := dk_180 1 38 (dk_at dksX3_stepped_0 12 rfl rfl)
theorem dX3_stepped_15 : decode cX3_stepped 15 = .ok (.aload_n 0, 1) := dk_42 (dk_at dksX3_stepped_0 15 rfl rfl)
theorem dX3_stepped_16 : decode cX3_stepped 16 = .ok (.getfield 297, 3) := dk_180 1 41 (dk_at dksX3_stepped_0 16 rfl rfl)
theorem dX3_stepped_19 : decode cX3_stepped 19 = .ok (.iadd, 1) := dk_96 (dk_at dksX3_stepped_0 19 rfl rfl)
theorem dX3_stepped_20 : decode cX3_stepped 20 = .ok (.dload_n 1, 1) := dk_39 (dk_at dksX3_stepped_0 20 rfl rfl)
theorem dX3_stepped_21 : decode cX3_stepped 21 = .ok (.dastore, 1) := dk_82 (dk_at dksX3_stepped_0 21 rfl rfl)
theorem dX3_stepped_22 : decode cX3_stepped 22 = .ok (.aload_n 0, 1) := dk_42 (dk_at dksX3_stepped_0 22 rfl rfl)
theorem dX3_stepped_23 : decode cX3_stepped 23 = .ok (.getfield 48, 3) := dk_180 0 48 (dk_at dksX3_stepped_1 0 rfl rfl)
theorem dX3_stepped_26 : decode cX3_stepped 26 = .ok (.aload_n 0, 1) := dk_42 (dk_at dksX3_stepped_1 3 rfl rfl)
theorem dX3_stepped_27 : decode cX3_stepped 27 = .ok (.getfield 294, 3) := dk_180 1 38 (dk_at dksX3_stepped_1 4 rfl rfl)
theorem dX3_stepped_30 : decode cX3_stepped 30 = .ok (.aload_n 0, 1) := dk_42 (dk_at dksX3_stepped_1 7 rfl rfl)
theorem dX3_stepped_31 : decode cX3_stepped 31 = .ok (.getfield 297, 3) := dk_180 1 41 (dk_at dksX3_stepped_1 8 rfl rfl)
theorem dX3_stepped_34 : decode cX3_stepped 34 = .ok (.iadd, 1) := dk_96 (dk_at dksX3_stepped_1 11 rfl rfl)
theorem dX3_stepped_35 : decode cX3_stepped 35 = .ok (.dload_n 3, 1) := dk_41 (dk_at dksX3_stepped_1 12 rfl rfl)
theorem dX3_stepped_36 : decode cX3_stepped 36 = .ok (.dastore, 1) := dk_82 (dk_at dksX3_stepped_1 13 rfl rfl)
theorem dX3_stepped_37 : decode cX3_stepped 37 = .ok (.aload_n 0, 1) := dk_42 (dk_at dksX3_stepped_1 14 rfl rfl)
theorem dX3_stepped_38 : decode cX3_stepped 38 = .ok (.getfield 51, 3) := dk_180 0 51 (dk_at dksX3_stepped_1 15 rfl rfl)
theorem dX3_stepped_41 : decode cX3_stepped 41 = .ok (.aload_n 0, 1) := dk_42 (dk_at dksX3_stepped_1 18 rfl rfl)
theorem dX3_stepped_42 : decode cX3_stepped 42 = .ok (.getfield 294, 3) := dk_180 1 38 (dk_at dksX3_stepped_1 19 rfl rfl)
theorem dX3_stepped_45 : decode cX3_stepped 45 = .ok (.aload_n 0, 1) := dk_42 (dk_at dksX3_stepped_1 22 rfl rfl)
theorem dX3_stepped_46 : decode cX3_stepped 46 = .ok (.getfield 297, 3) := dk_180 1 41 (dk_at dksX3_stepped_2 0 rfl rfl)
theorem dX3_stepped_49 : decode cX3_stepped 49 = .ok (.iadd, 1) := dk_96 (dk_at dksX3_stepped_2 3 rfl rfl)
theorem dX3_stepped_50 : decode cX3_stepped 50 = .ok (.dload 5, 2) := dk_24 5 (dk_at dksX3_stepped_2 4 rfl rfl)
theorem dX3_stepped_52 : decode cX3_stepped 52 = .ok (.dastore, 1) := dk_82 (dk_at dksX3_stepped_2 6 rfl rfl)
theorem dX3_stepped_53 : decode cX3_stepped 53 = .ok (.aload_n 0, 1) := dk_42 (dk_at dksX3_stepped_2 7 rfl rfl)
theorem dX3_stepped_54 : decode cX3_stepped 54 = .ok (.dup, 1) := dk_89 (dk_at dksX3_stepped_2 8 rfl rfl)
theorem dX3_stepped_55 : decode cX3_stepped 55 = .ok (.getfield 297, 3) := dk_180 1 41 (dk_at dksX3_stepped_2 9 rfl rfl)
theorem dX3_stepped_58 : decode cX3_stepped 58 = .ok (.iconst 1, 1) := dk_4 (dk_at dksX3_stepped_2 12 rfl rfl)
theorem dX3_stepped_59 : decode cX3_stepped 59 = .ok (.iadd, 1) := dk_96 (dk_at dksX3_stepped_2 13 rfl rfl)
theorem dX3_stepped_60 : decode cX3_stepped 60 = .ok (.putfield 297, 3) := dk_181 1 41 (dk_at dksX3_stepped_2 14 rfl rfl)
theorem dX3_stepped_63 : decode cX3_stepped 63 = .ok (.dload 5, 2) := dk_24 5 (dk_at dksX3_stepped_2 17 rfl rfl)
theorem dX3_stepped_65 : decode cX3_stepped 65 = .ok (.dreturn, 1) := dk_175 (dk_at dksX3_stepped_2 19 rfl rfl)
abbrev cX3_blocks : ByteArray := prog_27_method_57_code
def yX3_blocks : MethodName := ⟨RX3, "blocks", "(II)D"⟩
def dkwX3_blocks_5 : List UInt8 := [42, 24, 4, 42, 180, 0, 57, 21, 6, 49, 182, 1, 60, 57, 4, 132, 6, 1, 167, 255, 232, 24, 4, 175]
abbrev dktX3_blocks_5 : List UInt8 := dkwX3_blocks_5 ++ []
def dkwX3_blocks_4 : List UInt8 := [28, 96, 54, 4, 167, 255, 162, 42, 180, 0, 57, 3, 49, 57, 4, 4, 54, 6, 21, 6, 29, 162, 0, 24]
abbrev dktX3_blocks_4 : List UInt8 := dkwX3_blocks_4 ++ dktX3_blocks_5
def dkwX3_blocks_3 : List UInt8 := [182, 1, 60, 57, 5, 132, 7, 1, 167, 255, 213, 42, 180, 0, 57, 29, 24, 5, 82, 132, 3, 1, 21, 4]
abbrev dktX3_blocks_3 : List UInt8 := dkwX3_blocks_3 ++ dktX3_blocks_4
def dkwX3_blocks_2 : List UInt8 := [180, 0, 7, 27, 46, 162, 0, 29, 42, 24, 5, 42, 180, 0, 17, 16, 60, 27, 104, 21, 7, 96, 49]
abbrev dktX3_blocks_2 : List UInt8 := dkwX3_blocks_2 ++ dktX3_blocks_3
def dkwX3_blocks_1 : List UInt8 := [21, 4, 96, 49, 57, 5, 21, 4, 4, 96, 54, 7, 21, 7, 21, 4, 28, 96, 162, 0, 40, 21, 7, 42]
abbrev dktX3_blocks_1 : List UInt8 := dkwX3_blocks_1 ++ dktX3_blocks_2
def dkwX3_blocks_0 : List UInt8 := [3, 62, 3, 54, 4, 21, 4, 42, 180, 0, 7, 27, 46, 162, 0, 89, 42, 180, 0, 17, 16, 60, 27, 104]
abbrev dktX3_blocks_0 : List UInt8 := dkwX3_blocks_0 ++ dktX3_blocks_1
theorem dksX3_blocks_0 : cX3_blocks.data.toList.drop 0 = dktX3_blocks_0 := by decide +kernel
theorem dksX3_blocks_1 : cX3_blocks.data.toList.drop 24 = dktX3_blocks_1 := dk_seg dksX3_blocks_0 24 rfl rfl
theorem dksX3_blocks_2 : cX3_blocks.data.toList.drop 48 = dktX3_blocks_2 := dk_seg dksX3_blocks_1 24 rfl rfl
theorem dksX3_blocks_3 : cX3_blocks.data.toList.drop 71 = dktX3_blocks_3 := dk_seg dksX3_blocks_2 23 rfl rfl
theorem dksX3_blocks_4 : cX3_blocks.data.toList.drop 95 = dktX3_blocks_4 := dk_seg dksX3_blocks_3 24 rfl rfl
theorem dksX3_blocks_5 : cX3_blocks.data.toList.drop 119 = dktX3_blocks_5 := dk_seg dksX3_blocks_4 24 rfl rfl
theorem dX3_blocks_0 : decode cX3_blocks 0 = .ok (.iconst 0, 1) := dk_3 (dk_at dksX3_blocks_0 0 rfl rfl)
theorem dX3_blocks_1 : decode cX3_blocks 1 = .ok (.istore_n 3, 1) := dk_62 (dk_at dksX3_blocks_0 1 rfl rfl)
theorem dX3_blocks_2 : decode cX3_blocks 2 = .ok (.iconst 0, 1) := dk_3 (dk_at dksX3_blocks_0 2 rfl rfl)
theorem dX3_blocks_3 : decode cX3_blocks 3 = .ok (.istore 4, 2) := dk_54 4 (dk_at dksX3_blocks_0 3 rfl rfl)
theorem dX3_blocks_5 : decode cX3_blocks 5 = .ok (.iload 4, 2) := dk_21 4 (dk_at dksX3_blocks_0 5 rfl rfl)
theorem dX3_blocks_7 : decode cX3_blocks 7 = .ok (.aload_n 0, 1) := dk_42 (dk_at dksX3_blocks_0 7 rfl rfl)
theorem dX3_blocks_8 : decode cX3_blocks 8 = .ok (.getfield 7, 3) := dk_180 0 7 (dk_at dksX3_blocks_0 8 rfl rfl)
theorem dX3_blocks_11 : decode cX3_blocks 11 = .ok (.iload_n 1, 1) := dk_27 (dk_at dksX3_blocks_0 11 rfl rfl)
theorem dX3_blocks_12 : decode cX3_blocks 12 = .ok (.iaload, 1) := dk_46 (dk_at dksX3_blocks_0 12 rfl rfl)
theorem dX3_blocks_13 : decode cX3_blocks 13 = .ok (.if_icmp .ge 89, 3) := dk_162 0 89 (dk_at dksX3_blocks_0 13 rfl rfl)
theorem dX3_blocks_16 : decode cX3_blocks 16 = .ok (.aload_n 0, 1) := dk_42 (dk_at dksX3_blocks_0 16 rfl rfl)
theorem dX3_blocks_17 : decode cX3_blocks 17 = .ok (.getfield 17, 3) := dk_180 0 17 (dk_at dksX3_blocks_0 17 rfl rfl)
theorem dX3_blocks_20 : decode cX3_blocks 20 = .ok (.bipush 60, 2) := dk_16 60 (dk_at dksX3_blocks_0 20 rfl rfl)
theorem dX3_blocks_22 : decode cX3_blocks 22 = .ok (.iload_n 1, 1) := dk_27 (dk_at dksX3_blocks_0 22 rfl rfl)
theorem dX3_blocks_23 : decode cX3_blocks 23 = .ok (.imul, 1) := dk_104 (dk_at dksX3_blocks_0 23 rfl rfl)
theorem dX3_blocks_24 : decode cX3_blocks 24 = .ok (.iload 4, 2) := dk_21 4 (dk_at dksX3_blocks_1 0 rfl rfl)
theorem dX3_blocks_26 : decode cX3_blocks 26 = .ok (.iadd, 1) := dk_96 (dk_at dksX3_blocks_1 2 rfl rfl)
theorem dX3_blocks_27 : decode cX3_blocks 27 = .ok (.daload, 1) := dk_49 (dk_at dksX3_blocks_1 3 rfl rfl)
theorem dX3_blocks_28 : decode cX3_blocks 28 = .ok (.dstore 5, 2) := dk_57 5 (dk_at dksX3_blocks_1 4 rfl rfl)
theorem dX3_blocks_30 : decode cX3_blocks 30 = .ok (.iload 4, 2) := dk_21 4 (dk_at dksX3_blocks_1 6 rfl rfl)
theorem dX3_blocks_32 : decode cX3_blocks 32 = .ok (.iconst 1, 1) := dk_4 (dk_at dksX3_blocks_1 8 rfl rfl)
theorem dX3_blocks_33 : decode cX3_blocks 33 = .ok (.iadd, 1) := dk_96 (dk_at dksX3_blocks_1 9 rfl rfl)
theorem dX3_blocks_34 : decode cX3_blocks 34 = .ok (.istore 7, 2) := dk_54 7 (dk_at dksX3_blocks_1 10 rfl rfl)
theorem dX3_blocks_36 : decode cX3_blocks 36 = .ok (.iload 7, 2) := dk_21 7 (dk_at dksX3_blocks_1 12 rfl rfl)
theorem dX3_blocks_38 : decode cX3_blocks 38 = .ok (.iload 4, 2) := dk_21 4 (dk_at dksX3_blocks_1 14 rfl rfl)
theorem dX3_blocks_40 : decode cX3_blocks 40 = .ok (.iload_n 2, 1) := dk_28 (dk_at dksX3_blocks_1 16 rfl rfl)
theorem dX3_blocks_41 : decode cX3_blocks 41 = .ok (.iadd, 1) := dk_96 (dk_at dksX3_blocks_1 17 rfl rfl)
theorem dX3_blocks_42 : decode cX3_blocks 42 = .ok (.if_icmp .ge 40, 3) := dk_162 0 40 (dk_at dksX3_blocks_1 18 rfl rfl)
theorem dX3_blocks_45 : decode cX3_blocks 45 = .ok (.iload 7, 2) := dk_21 7 (dk_at dksX3_blocks_1 21 rfl rfl)
theorem dX3_blocks_47 : decode cX3_blocks 47 = .ok (.aload_n 0, 1) := dk_42 (dk_at dksX3_blocks_1 23 rfl rfl)
theorem dX3_blocks_48 : decode cX3_blocks 48 = .ok (.getfield 7, 3) := dk_180 0 7 (dk_at dksX3_blocks_2 0 rfl rfl)
theorem dX3_blocks_51 : decode cX3_blocks 51 = .ok (.iload_n 1, 1) := dk_27 (dk_at dksX3_blocks_2 3 rfl rfl)
theorem dX3_blocks_52 : decode cX3_blocks 52 = .ok (.iaload, 1) := dk_46 (dk_at dksX3_blocks_2 4 rfl rfl)
theorem dX3_blocks_53 : decode cX3_blocks 53 = .ok (.if_icmp .ge 29, 3) := dk_162 0 29 (dk_at dksX3_blocks_2 5 rfl rfl)
theorem dX3_blocks_56 : decode cX3_blocks 56 = .ok (.aload_n 0, 1) := dk_42 (dk_at dksX3_blocks_2 8 rfl rfl)
theorem dX3_blocks_57 : decode cX3_blocks 57 = .ok (.dload 5, 2) := dk_24 5 (dk_at dksX3_blocks_2 9 rfl rfl)
theorem dX3_blocks_59 : decode cX3_blocks 59 = .ok (.aload_n 0, 1) := dk_42 (dk_at dksX3_blocks_2 11 rfl rfl)
theorem dX3_blocks_60 : decode cX3_blocks 60 = .ok (.getfield 17, 3) := dk_180 0 17 (dk_at dksX3_blocks_2 12 rfl rfl)
theorem dX3_blocks_63 : decode cX3_blocks 63 = .ok (.bipush 60, 2) := dk_16 60 (dk_at dksX3_blocks_2 15 rfl rfl)
theorem dX3_blocks_65 : decode cX3_blocks 65 = .ok (.iload_n 1, 1) := dk_27 (dk_at dksX3_blocks_2 17 rfl rfl)
theorem dX3_blocks_66 : decode cX3_blocks 66 = .ok (.imul, 1) := dk_104 (dk_at dksX3_blocks_2 18 rfl rfl)
theorem dX3_blocks_67 : decode cX3_blocks 67 = .ok (.iload 7, 2) := dk_21 7 (dk_at dksX3_blocks_2 19 rfl rfl)
theorem dX3_blocks_69 : decode cX3_blocks 69 = .ok (.iadd, 1) := dk_96 (dk_at dksX3_blocks_2 21 rfl rfl)
theorem dX3_blocks_70 : decode cX3_blocks 70 = .ok (.daload, 1) := dk_49 (dk_at dksX3_blocks_2 22 rfl rfl)
theorem dX3_blocks_71 : decode cX3_blocks 71 = .ok (.invokevirtual 316, 3) := dk_182 1 60 (dk_at dksX3_blocks_3 0 rfl rfl)
theorem dX3_blocks_74 : decode cX3_blocks 74 = .ok (.dstore 5, 2) := dk_57 5 (dk_at dksX3_blocks_3 3 rfl rfl)
theorem dX3_blocks_76 : decode cX3_blocks 76 = .ok (.iinc 7 1, 3) := dk_132 7 1 (dk_at dksX3_blocks_3 5 rfl rfl)
theorem dX3_blocks_79 : decode cX3_blocks 79 = .ok (.goto (-43), 3) := dk_167 255 213 (dk_at dksX3_blocks_3 8 rfl rfl)
theorem dX3_blocks_82 : decode cX3_blocks 82 = .ok (.aload_n 0, 1) := dk_42 (dk_at dksX3_blocks_3 11 rfl rfl)
theorem dX3_blocks_83 : decode cX3_blocks 83 = .ok (.getfield 57, 3) := dk_180 0 57 (dk_at dksX3_blocks_3 12 rfl rfl)
theorem dX3_blocks_86 : decode cX3_blocks 86 = .ok (.iload_n 3, 1) := dk_29 (dk_at dksX3_blocks_3 15 rfl rfl)
theorem dX3_blocks_87 : decode cX3_blocks 87 = .ok (.dload 5, 2) := dk_24 5 (dk_at dksX3_blocks_3 16 rfl rfl)
theorem dX3_blocks_89 : decode cX3_blocks 89 = .ok (.dastore, 1) := dk_82 (dk_at dksX3_blocks_3 18 rfl rfl)
theorem dX3_blocks_90 : decode cX3_blocks 90 = .ok (.iinc 3 1, 3) := dk_132 3 1 (dk_at dksX3_blocks_3 19 rfl rfl)
theorem dX3_blocks_93 : decode cX3_blocks 93 = .ok (.iload 4, 2) := dk_21 4 (dk_at dksX3_blocks_3 22 rfl rfl)
theorem dX3_blocks_95 : decode cX3_blocks 95 = .ok (.iload_n 2, 1) := dk_28 (dk_at dksX3_blocks_4 0 rfl rfl)
theorem dX3_blocks_96 : decode cX3_blocks 96 = .ok (.iadd, 1) := dk_96 (dk_at dksX3_blocks_4 1 rfl rfl)
theorem dX3_blocks_97 : decode cX3_blocks 97 = .ok (.istore 4, 2) := dk_54 4 (dk_at dksX3_blocks_4 2 rfl rfl)
theorem dX3_blocks_99 : decode cX3_blocks 99 = .ok (.goto (-94), 3) := dk_167 255 162 (dk_at dksX3_blocks_4 4 rfl rfl)
theorem dX3_blocks_102 : decode cX3_blocks 102 = .ok (.aload_n 0, 1) := dk_42 (dk_at dksX3_blocks_4 7 rfl rfl)
theorem dX3_blocks_103 : decode cX3_blocks 103 = .ok (.getfield 57, 3) := dk_180 0 57 (dk_at dksX3_blocks_4 8 rfl rfl)
theorem dX3_blocks_106 : decode cX3_blocks 106 = .ok (.iconst 0, 1) := dk_3 (dk_at dksX3_blocks_4 11 rfl rfl)
theorem dX3_blocks_107 : decode cX3_blocks 107 = .ok (.daload, 1) := dk_49 (dk_at dksX3_blocks_4 12 rfl rfl)
theorem dX3_blocks_108 : decode cX3_blocks 108 = .ok (.dstore 4, 2) := dk_57 4 (dk_at dksX3_blocks_4 13 rfl rfl)
theorem dX3_blocks_110 : decode cX3_blocks 110 = .ok (.iconst 1, 1) := dk_4 (dk_at dksX3_blocks_4 15 rfl rfl)
theorem dX3_blocks_111 : decode cX3_blocks 111 = .ok (.istore 6, 2) := dk_54 6 (dk_at dksX3_blocks_4 16 rfl rfl)
theorem dX3_blocks_113 : decode cX3_blocks 113 = .ok (.iload 6, 2) := dk_21 6 (dk_at dksX3_blocks_4 18 rfl rfl)
theorem dX3_blocks_115 : decode cX3_blocks 115 = .ok (.iload_n 3, 1) := dk_29 (dk_at dksX3_blocks_4 20 rfl rfl)
theorem dX3_blocks_116 : decode cX3_blocks 116 = .ok (.if_icmp .ge 24, 3) := dk_162 0 24 (dk_at dksX3_blocks_4 21 rfl rfl)
theorem dX3_blocks_119 : decode cX3_blocks 119 = .ok (.aload_n 0, 1) := dk_42 (dk_at dksX3_blocks_5 0 rfl rfl)
theorem dX3_blocks_120 : decode cX3_blocks 120 = .ok (.dload 4, 2) := dk_24 4 (dk_at dksX3_blocks_5 1 rfl rfl)
theorem dX3_blocks_122 : decode cX3_blocks 122 = .ok (.aload_n 0, 1) := dk_42 (dk_at dksX3_blocks_5 3 rfl rfl)
theorem dX3_blocks_123 : decode cX3_blocks 123 = .ok (.getfield 57, 3) := dk_180 0 57 (dk_at dksX3_blocks_5 4 rfl rfl)
theorem dX3_blocks_126 : decode cX3_blocks 126 = .ok (.iload 6, 2) := dk_21 6 (dk_at dksX3_blocks_5 7 rfl rfl)
theorem dX3_blocks_128 : decode cX3_blocks 128 = .ok (.daload, 1) := dk_49 (dk_at dksX3_blocks_5 9 rfl rfl)
theorem dX3_blocks_129 : decode cX3_blocks 129 = .ok (.invokevirtual 316, 3) := dk_182 1 60 (dk_at dksX3_blocks_5 10 rfl rfl)
theorem dX3_blocks_132 : decode cX3_blocks 132 = .ok (.dstore 4, 2) := dk_57 4 (dk_at dksX3_blocks_5 13 rfl rfl)
theorem dX3_blocks_134 : decode cX3_blocks 134 = .ok (.iinc 6 1, 3) := dk_132 6 1 (dk_at dksX3_blocks_5 15 rfl rfl)
theorem dX3_blocks_137 : decode cX3_blocks 137 = .ok (.goto (-24), 3) := dk_167 255 232 (dk_at dksX3_blocks_5 18 rfl rfl)
theorem dX3_blocks_140 : decode cX3_blocks 140 = .ok (.dload 4, 2) := dk_24 4 (dk_at dksX3_blocks_5 21 rfl rfl)
theorem dX3_blocks_142 : decode cX3_blocks 142 = .ok (.dreturn, 1) := dk_175 (dk_at dksX3_blocks_5 23 rfl rfl)
abbrev cX3_queue : ByteArray := prog_27_method_60_code
def yX3_queue : MethodName := ⟨RX3, "queue", "(I)D"⟩
def dkwX3_queue_4 : List UInt8 := [100, 42, 24, 4, 24, 7, 182, 1, 60, 82, 132, 2, 255, 167, 255, 185, 42, 180, 0, 57, 3, 49, 175]
abbrev dktX3_queue_4 : List UInt8 := dkwX3_queue_4 ++ []
def dkwX3_queue_3 : List UInt8 := [42, 180, 0, 57, 21, 6, 49, 57, 7, 42, 21, 6, 28, 4, 100, 182, 1, 66, 42, 180, 0, 57, 28, 5]
abbrev dktX3_queue_3 : List UInt8 := dkwX3_queue_3 ++ dktX3_queue_4
def dkwX3_queue_2 : List UInt8 := [62, 42, 180, 0, 57, 29, 49, 57, 4, 42, 29, 28, 182, 1, 66, 42, 28, 4, 100, 182, 1, 63, 54, 6]
abbrev dktX3_queue_2 : List UInt8 := dkwX3_queue_2 ++ dktX3_queue_3
def dkwX3_queue_1 : List UInt8 := [16, 60, 27, 104, 29, 96, 49, 82, 132, 3, 1, 167, 255, 231, 28, 4, 164, 0, 72, 42, 28, 182, 1, 63]
abbrev dktX3_queue_1 : List UInt8 := dkwX3_queue_1 ++ dktX3_queue_2
def dkwX3_queue_0 : List UInt8 := [42, 180, 0, 7, 27, 46, 61, 3, 62, 29, 28, 162, 0, 26, 42, 180, 0, 57, 29, 42, 180, 0, 17]
abbrev dktX3_queue_0 : List UInt8 := dkwX3_queue_0 ++ dktX3_queue_1
theorem dksX3_queue_0 : cX3_queue.data.toList.drop 0 = dktX3_queue_0 := by decide +kernel
theorem dksX3_queue_1 : cX3_queue.data.toList.drop 23 = dktX3_queue_1 := dk_seg dksX3_queue_0 23 rfl rfl
theorem dksX3_queue_2 : cX3_queue.data.toList.drop 47 = dktX3_queue_2 := dk_seg dksX3_queue_1 24 rfl rfl
theorem dksX3_queue_3 : cX3_queue.data.toList.drop 71 = dktX3_queue_3 := dk_seg dksX3_queue_2 24 rfl rfl
theorem dksX3_queue_4 : cX3_queue.data.toList.drop 95 = dktX3_queue_4 := dk_seg dksX3_queue_3 24 rfl rfl
theorem dX3_queue_0 : decode cX3_queue 0 = .ok (.aload_n 0, 1) := dk_42 (dk_at dksX3_queue_0 0 rfl rfl)
theorem dX3_queue_1 : decode cX3_queue 1 = .ok (.getfield 7, 3) := dk_180 0 7 (dk_at dksX3_queue_0 1 rfl rfl)
theorem dX3_queue_4 : decode cX3_queue 4 = .ok (.iload_n 1, 1) := dk_27 (dk_at dksX3_queue_0 4 rfl rfl)
theorem dX3_queue_5 : decode cX3_queue 5 = .ok (.iaload, 1) := dk_46 (dk_at dksX3_queue_0 5 rfl rfl)
theorem dX3_queue_6 : decode cX3_queue 6 = .ok (.istore_n 2, 1) := dk_61 (dk_at dksX3_queue_0 6 rfl rfl)
theorem dX3_queue_7 : decode cX3_queue 7 = .ok (.iconst 0, 1) := dk_3 (dk_at dksX3_queue_0 7 rfl rfl)
theorem dX3_queue_8 : decode cX3_queue 8 = .ok (.istore_n 3, 1) := dk_62 (dk_at dksX3_queue_0 8 rfl rfl)
theorem dX3_queue_9 : decode cX3_queue 9 = .ok (.iload_n 3, 1) := dk_29 (dk_at dksX3_queue_0 9 rfl rfl)
theorem dX3_queue_10 : decode cX3_queue 10 = .ok (.iload_n 2, 1) := dk_28 (dk_at dksX3_queue_0 10 rfl rfl)
theorem dX3_queue_11 : decode cX3_queue 11 = .ok (.if_icmp .ge 26, 3) := dk_162 0 26 (dk_at dksX3_queue_0 11 rfl rfl)
theorem dX3_queue_14 : decode cX3_queue 14 = .ok (.aload_n 0, 1) := dk_42 (dk_at dksX3_queue_0 14 rfl rfl)
theorem dX3_queue_15 : decode cX3_queue 15 = .ok (.getfield 57, 3) := dk_180 0 57 (dk_at dksX3_queue_0 15 rfl rfl)
theorem dX3_queue_18 : decode cX3_queue 18 = .ok (.iload_n 3, 1) := dk_29 (dk_at dksX3_queue_0 18 rfl rfl)
theorem dX3_queue_19 : decode cX3_queue 19 = .ok (.aload_n 0, 1) := dk_42 (dk_at dksX3_queue_0 19 rfl rfl)
theorem dX3_queue_20 : decode cX3_queue 20 = .ok (.getfield 17, 3) := dk_180 0 17 (dk_at dksX3_queue_0 20 rfl rfl)
theorem dX3_queue_23 : decode cX3_queue 23 = .ok (.bipush 60, 2) := dk_16 60 (dk_at dksX3_queue_1 0 rfl rfl)
theorem dX3_queue_25 : decode cX3_queue 25 = .ok (.iload_n 1, 1) := dk_27 (dk_at dksX3_queue_1 2 rfl rfl)
theorem dX3_queue_26 : decode cX3_queue 26 = .ok (.imul, 1) := dk_104 (dk_at dksX3_queue_1 3 rfl rfl)
theorem dX3_queue_27 : decode cX3_queue 27 = .ok (.iload_n 3, 1) := dk_29 (dk_at dksX3_queue_1 4 rfl rfl)
theorem dX3_queue_28 : decode cX3_queue 28 = .ok (.iadd, 1) := dk_96 (dk_at dksX3_queue_1 5 rfl rfl)
theorem dX3_queue_29 : decode cX3_queue 29 = .ok (.daload, 1) := dk_49 (dk_at dksX3_queue_1 6 rfl rfl)
theorem dX3_queue_30 : decode cX3_queue 30 = .ok (.dastore, 1) := dk_82 (dk_at dksX3_queue_1 7 rfl rfl)
theorem dX3_queue_31 : decode cX3_queue 31 = .ok (.iinc 3 1, 3) := dk_132 3 1 (dk_at dksX3_queue_1 8 rfl rfl)
theorem dX3_queue_34 : decode cX3_queue 34 = .ok (.goto (-25), 3) := dk_167 255 231 (dk_at dksX3_queue_1 11 rfl rfl)
theorem dX3_queue_37 : decode cX3_queue 37 = .ok (.iload_n 2, 1) := dk_28 (dk_at dksX3_queue_1 14 rfl rfl)
theorem dX3_queue_38 : decode cX3_queue 38 = .ok (.iconst 1, 1) := dk_4 (dk_at dksX3_queue_1 15 rfl rfl)
theorem dX3_queue_39 : decode cX3_queue 39 = .ok (.if_icmp .le 72, 3) := dk_164 0 72 (dk_at dksX3_queue_1 16 rfl rfl)
theorem dX3_queue_42 : decode cX3_queue 42 = .ok (.aload_n 0, 1) := dk_42 (dk_at dksX3_queue_1 19 rfl rfl)
theorem dX3_queue_43 : decode cX3_queue 43 = .ok (.iload_n 2, 1) := dk_28 (dk_at dksX3_queue_1 20 rfl rfl)
theorem dX3_queue_44 : decode cX3_queue 44 = .ok (.invokevirtual 319, 3) := dk_182 1 63 (dk_at dksX3_queue_1 21 rfl rfl)
theorem dX3_queue_47 : decode cX3_queue 47 = .ok (.istore_n 3, 1) := dk_62 (dk_at dksX3_queue_2 0 rfl rfl)
theorem dX3_queue_48 : decode cX3_queue 48 = .ok (.aload_n 0, 1) := dk_42 (dk_at dksX3_queue_2 1 rfl rfl)
theorem dX3_queue_49 : decode cX3_queue 49 = .ok (.getfield 57, 3) := dk_180 0 57 (dk_at dksX3_queue_2 2 rfl rfl)
theorem dX3_queue_52 : decode cX3_queue 52 = .ok (.iload_n 3, 1) := dk_29 (dk_at dksX3_queue_2 5 rfl rfl)
theorem dX3_queue_53 : decode cX3_queue 53 = .ok (.daload, 1) := dk_49 (dk_at dksX3_queue_2 6 rfl rfl)
theorem dX3_queue_54 : decode cX3_queue 54 = .ok (.dstore 4, 2) := dk_57 4 (dk_at dksX3_queue_2 7 rfl rfl)
theorem dX3_queue_56 : decode cX3_queue 56 = .ok (.aload_n 0, 1) := dk_42 (dk_at dksX3_queue_2 9 rfl rfl)
theorem dX3_queue_57 : decode cX3_queue 57 = .ok (.iload_n 3, 1) := dk_29 (dk_at dksX3_queue_2 10 rfl rfl)
theorem dX3_queue_58 : decode cX3_queue 58 = .ok (.iload_n 2, 1) := dk_28 (dk_at dksX3_queue_2 11 rfl rfl)
theorem dX3_queue_59 : decode cX3_queue 59 = .ok (.invokevirtual 322, 3) := dk_182 1 66 (dk_at dksX3_queue_2 12 rfl rfl)
theorem dX3_queue_62 : decode cX3_queue 62 = .ok (.aload_n 0, 1) := dk_42 (dk_at dksX3_queue_2 15 rfl rfl)
theorem dX3_queue_63 : decode cX3_queue 63 = .ok (.iload_n 2, 1) := dk_28 (dk_at dksX3_queue_2 16 rfl rfl)
theorem dX3_queue_64 : decode cX3_queue 64 = .ok (.iconst 1, 1) := dk_4 (dk_at dksX3_queue_2 17 rfl rfl)
theorem dX3_queue_65 : decode cX3_queue 65 = .ok (.isub, 1) := dk_100 (dk_at dksX3_queue_2 18 rfl rfl)
theorem dX3_queue_66 : decode cX3_queue 66 = .ok (.invokevirtual 319, 3) := dk_182 1 63 (dk_at dksX3_queue_2 19 rfl rfl)
theorem dX3_queue_69 : decode cX3_queue 69 = .ok (.istore 6, 2) := dk_54 6 (dk_at dksX3_queue_2 22 rfl rfl)
theorem dX3_queue_71 : decode cX3_queue 71 = .ok (.aload_n 0, 1) := dk_42 (dk_at dksX3_queue_3 0 rfl rfl)
theorem dX3_queue_72 : decode cX3_queue 72 = .ok (.getfield 57, 3) := dk_180 0 57 (dk_at dksX3_queue_3 1 rfl rfl)
theorem dX3_queue_75 : decode cX3_queue 75 = .ok (.iload 6, 2) := dk_21 6 (dk_at dksX3_queue_3 4 rfl rfl)
theorem dX3_queue_77 : decode cX3_queue 77 = .ok (.daload, 1) := dk_49 (dk_at dksX3_queue_3 6 rfl rfl)
theorem dX3_queue_78 : decode cX3_queue 78 = .ok (.dstore 7, 2) := dk_57 7 (dk_at dksX3_queue_3 7 rfl rfl)
theorem dX3_queue_80 : decode cX3_queue 80 = .ok (.aload_n 0, 1) := dk_42 (dk_at dksX3_queue_3 9 rfl rfl)
theorem dX3_queue_81 : decode cX3_queue 81 = .ok (.iload 6, 2) := dk_21 6 (dk_at dksX3_queue_3 10 rfl rfl)
theorem dX3_queue_83 : decode cX3_queue 83 = .ok (.iload_n 2, 1) := dk_28 (dk_at dksX3_queue_3 12 rfl rfl)
theorem dX3_queue_84 : decode cX3_queue 84 = .ok (.iconst 1, 1) := dk_4 (dk_at dksX3_queue_3 13 rfl rfl)
theorem dX3_queue_85 : decode cX3_queue 85 = .ok (.isub, 1) := dk_100 (dk_at dksX3_queue_3 14 rfl rfl)
theorem dX3_queue_86 : decode cX3_queue 86 = .ok (.invokevirtual 322, 3) := dk_182 1 66 (dk_at dksX3_queue_3 15 rfl rfl)
theorem dX3_queue_89 : decode cX3_queue 89 = .ok (.aload_n 0, 1) := dk_42 (dk_at dksX3_queue_3 18 rfl rfl)
theorem dX3_queue_90 : decode cX3_queue 90 = .ok (.getfield 57, 3) := dk_180 0 57 (dk_at dksX3_queue_3 19 rfl rfl)
theorem dX3_queue_93 : decode cX3_queue 93 = .ok (.iload_n 2, 1) := dk_28 (dk_at dksX3_queue_3 22 rfl rfl)
theorem dX3_queue_94 : decode cX3_queue 94 = .ok (.iconst 2, 1) := dk_5 (dk_at dksX3_queue_3 23 rfl rfl)
theorem dX3_queue_95 : decode cX3_queue 95 = .ok (.isub, 1) := dk_100 (dk_at dksX3_queue_4 0 rfl rfl)
theorem dX3_queue_96 : decode cX3_queue 96 = .ok (.aload_n 0, 1) := dk_42 (dk_at dksX3_queue_4 1 rfl rfl)
theorem dX3_queue_97 : decode cX3_queue 97 = .ok (.dload 4, 2) := dk_24 4 (dk_at dksX3_queue_4 2 rfl rfl)
theorem dX3_queue_99 : decode cX3_queue 99 = .ok (.dload 7, 2) := dk_24 7 (dk_at dksX3_queue_4 4 rfl rfl)
theorem dX3_queue_101 : decode cX3_queue 101 = .ok (.invokevirtual 316, 3) := dk_182 1 60 (dk_at dksX3_queue_4 6 rfl rfl)
theorem dX3_queue_104 : decode cX3_queue 104 = .ok (.dastore, 1) := dk_82 (dk_at dksX3_queue_4 9 rfl rfl)
theorem dX3_queue_105 : decode cX3_queue 105 = .ok (.iinc 2 (-1), 3) := dk_132 2 255 (dk_at dksX3_queue_4 10 rfl rfl)
theorem dX3_queue_108 : decode cX3_queue 108 = .ok (.goto (-71), 3) := dk_167 255 185 (dk_at dksX3_queue_4 13 rfl rfl)
theorem dX3_queue_111 : decode cX3_queue 111 = .ok (.aload_n 0, 1) := dk_42 (dk_at dksX3_queue_4 16 rfl rfl)
theorem dX3_queue_112 : decode cX3_queue 112 = .ok (.getfield 57, 3) := dk_180 0 57 (dk_at dksX3_queue_4 17 rfl rfl)
theorem dX3_queue_115 : decode cX3_queue 115 = .ok (.iconst 0, 1) := dk_3 (dk_at dksX3_queue_4 20 rfl rfl)
theorem dX3_queue_116 : decode cX3_queue 116 = .ok (.daload, 1) := dk_49 (dk_at dksX3_queue_4 21 rfl rfl)
theorem dX3_queue_117 : decode cX3_queue 117 = .ok (.dreturn, 1) := dk_175 (dk_at dksX3_queue_4 22 rfl rfl)
abbrev cX3_taken : ByteArray := prog_27_method_58_code
def yX3_taken : MethodName := ⟨RX3, "taken", "(I)I"⟩
def dkwX3_taken_1 : List UInt8 := [184, 0, 173, 152, 156, 0, 7, 29, 167, 0, 4, 28, 61, 132, 3, 1, 167, 255, 220, 28, 172]
abbrev dktX3_taken_1 : List UInt8 := dkwX3_taken_1 ++ []
def dkwX3_taken_0 : List UInt8 := [3, 61, 4, 62, 29, 27, 162, 0, 37, 42, 180, 0, 57, 29, 49, 184, 0, 173, 42, 180, 0, 57, 28, 49]
abbrev dktX3_taken_0 : List UInt8 := dkwX3_taken_0 ++ dktX3_taken_1
theorem dksX3_taken_0 : cX3_taken.data.toList.drop 0 = dktX3_taken_0 := by decide +kernel
theorem dksX3_taken_1 : cX3_taken.data.toList.drop 24 = dktX3_taken_1 := dk_seg dksX3_taken_0 24 rfl rfl
theorem dX3_taken_0 : decode cX3_taken 0 = .ok (.iconst 0, 1) := dk_3 (dk_at dksX3_taken_0 0 rfl rfl)
theorem dX3_taken_1 : decode cX3_taken 1 = .ok (.istore_n 2, 1) := dk_61 (dk_at dksX3_taken_0 1 rfl rfl)
theorem dX3_taken_2 : decode cX3_taken 2 = .ok (.iconst 1, 1) := dk_4 (dk_at dksX3_taken_0 2 rfl rfl)
theorem dX3_taken_3 : decode cX3_taken 3 = .ok (.istore_n 3, 1) := dk_62 (dk_at dksX3_taken_0 3 rfl rfl)
theorem dX3_taken_4 : decode cX3_taken 4 = .ok (.iload_n 3, 1) := dk_29 (dk_at dksX3_taken_0 4 rfl rfl)
theorem dX3_taken_5 : decode cX3_taken 5 = .ok (.iload_n 1, 1) := dk_27 (dk_at dksX3_taken_0 5 rfl rfl)
theorem dX3_taken_6 : decode cX3_taken 6 = .ok (.if_icmp .ge 37, 3) := dk_162 0 37 (dk_at dksX3_taken_0 6 rfl rfl)
theorem dX3_taken_9 : decode cX3_taken 9 = .ok (.aload_n 0, 1) := dk_42 (dk_at dksX3_taken_0 9 rfl rfl)
theorem dX3_taken_10 : decode cX3_taken 10 = .ok (.getfield 57, 3) := dk_180 0 57 (dk_at dksX3_taken_0 10 rfl rfl)
theorem dX3_taken_13 : decode cX3_taken 13 = .ok (.iload_n 3, 1) := dk_29 (dk_at dksX3_taken_0 13 rfl rfl)
theorem dX3_taken_14 : decode cX3_taken 14 = .ok (.daload, 1) := dk_49 (dk_at dksX3_taken_0 14 rfl rfl)
theorem dX3_taken_15 : decode cX3_taken 15 = .ok (.invokestatic 173, 3) := dk_184 0 173 (dk_at dksX3_taken_0 15 rfl rfl)
theorem dX3_taken_18 : decode cX3_taken 18 = .ok (.aload_n 0, 1) := dk_42 (dk_at dksX3_taken_0 18 rfl rfl)
theorem dX3_taken_19 : decode cX3_taken 19 = .ok (.getfield 57, 3) := dk_180 0 57 (dk_at dksX3_taken_0 19 rfl rfl)
theorem dX3_taken_22 : decode cX3_taken 22 = .ok (.iload_n 2, 1) := dk_28 (dk_at dksX3_taken_0 22 rfl rfl)
theorem dX3_taken_23 : decode cX3_taken 23 = .ok (.daload, 1) := dk_49 (dk_at dksX3_taken_0 23 rfl rfl)
theorem dX3_taken_24 : decode cX3_taken 24 = .ok (.invokestatic 173, 3) := dk_184 0 173 (dk_at dksX3_taken_1 0 rfl rfl)
theorem dX3_taken_27 : decode cX3_taken 27 = .ok (.dcmp .g, 1) := dk_152 (dk_at dksX3_taken_1 3 rfl rfl)
theorem dX3_taken_28 : decode cX3_taken 28 = .ok (.ifCond .ge 7, 3) := dk_156 0 7 (dk_at dksX3_taken_1 4 rfl rfl)
theorem dX3_taken_31 : decode cX3_taken 31 = .ok (.iload_n 3, 1) := dk_29 (dk_at dksX3_taken_1 7 rfl rfl)
theorem dX3_taken_32 : decode cX3_taken 32 = .ok (.goto 4, 3) := dk_167 0 4 (dk_at dksX3_taken_1 8 rfl rfl)
theorem dX3_taken_35 : decode cX3_taken 35 = .ok (.iload_n 2, 1) := dk_28 (dk_at dksX3_taken_1 11 rfl rfl)
theorem dX3_taken_36 : decode cX3_taken 36 = .ok (.istore_n 2, 1) := dk_61 (dk_at dksX3_taken_1 12 rfl rfl)
theorem dX3_taken_37 : decode cX3_taken 37 = .ok (.iinc 3 1, 3) := dk_132 3 1 (dk_at dksX3_taken_1 13 rfl rfl)
theorem dX3_taken_40 : decode cX3_taken 40 = .ok (.goto (-36), 3) := dk_167 255 220 (dk_at dksX3_taken_1 16 rfl rfl)
theorem dX3_taken_43 : decode cX3_taken 43 = .ok (.iload_n 2, 1) := dk_28 (dk_at dksX3_taken_1 19 rfl rfl)
theorem dX3_taken_44 : decode cX3_taken 44 = .ok (.ireturn, 1) := dk_172 (dk_at dksX3_taken_1 20 rfl rfl)
abbrev cX3_out : ByteArray := prog_27_method_59_code
def yX3_out : MethodName := ⟨RX3, "out", "(II)V"⟩
def dkwX3_out_1 : List UInt8 := [132, 3, 1, 167, 255, 232, 177]
abbrev dktX3_out_1 : List UInt8 := dkwX3_out_1 ++ []
def dkwX3_out_0 : List UInt8 := [27, 62, 29, 28, 4, 100, 162, 0, 23, 42, 180, 0, 57, 29, 42, 180, 0, 57, 29, 4, 96, 49, 82]
abbrev dktX3_out_0 : List UInt8 := dkwX3_out_0 ++ dktX3_out_1
theorem dksX3_out_0 : cX3_out.data.toList.drop 0 = dktX3_out_0 := by decide +kernel
theorem dksX3_out_1 : cX3_out.data.toList.drop 23 = dktX3_out_1 := dk_seg dksX3_out_0 23 rfl rfl
theorem dX3_out_0 : decode cX3_out 0 = .ok (.iload_n 1, 1) := dk_27 (dk_at dksX3_out_0 0 rfl rfl)
theorem dX3_out_1 : decode cX3_out 1 = .ok (.istore_n 3, 1) := dk_62 (dk_at dksX3_out_0 1 rfl rfl)
theorem dX3_out_2 : decode cX3_out 2 = .ok (.iload_n 3, 1) := dk_29 (dk_at dksX3_out_0 2 rfl rfl)
theorem dX3_out_3 : decode cX3_out 3 = .ok (.iload_n 2, 1) := dk_28 (dk_at dksX3_out_0 3 rfl rfl)
theorem dX3_out_4 : decode cX3_out 4 = .ok (.iconst 1, 1) := dk_4 (dk_at dksX3_out_0 4 rfl rfl)
theorem dX3_out_5 : decode cX3_out 5 = .ok (.isub, 1) := dk_100 (dk_at dksX3_out_0 5 rfl rfl)
theorem dX3_out_6 : decode cX3_out 6 = .ok (.if_icmp .ge 23, 3) := dk_162 0 23 (dk_at dksX3_out_0 6 rfl rfl)
theorem dX3_out_9 : decode cX3_out 9 = .ok (.aload_n 0, 1) := dk_42 (dk_at dksX3_out_0 9 rfl rfl)
theorem dX3_out_10 : decode cX3_out 10 = .ok (.getfield 57, 3) := dk_180 0 57 (dk_at dksX3_out_0 10 rfl rfl)
theorem dX3_out_13 : decode cX3_out 13 = .ok (.iload_n 3, 1) := dk_29 (dk_at dksX3_out_0 13 rfl rfl)
theorem dX3_out_14 : decode cX3_out 14 = .ok (.aload_n 0, 1) := dk_42 (dk_at dksX3_out_0 14 rfl rfl)
theorem dX3_out_15 : decode cX3_out 15 = .ok (.getfield 57, 3) := dk_180 0 57 (dk_at dksX3_out_0 15 rfl rfl)
theorem dX3_out_18 : decode cX3_out 18 = .ok (.iload_n 3, 1) := dk_29 (dk_at dksX3_out_0 18 rfl rfl)
theorem dX3_out_19 : decode cX3_out 19 = .ok (.iconst 1, 1) := dk_4 (dk_at dksX3_out_0 19 rfl rfl)
theorem dX3_out_20 : decode cX3_out 20 = .ok (.iadd, 1) := dk_96 (dk_at dksX3_out_0 20 rfl rfl)
theorem dX3_out_21 : decode cX3_out 21 = .ok (.daload, 1) := dk_49 (dk_at dksX3_out_0 21 rfl rfl)
theorem dX3_out_22 : decode cX3_out 22 = .ok (.dastore, 1) := dk_82 (dk_at dksX3_out_0 22 rfl rfl)
theorem dX3_out_23 : decode cX3_out 23 = .ok (.iinc 3 1, 3) := dk_132 3 1 (dk_at dksX3_out_1 0 rfl rfl)
theorem dX3_out_26 : decode cX3_out 26 = .ok (.goto (-24), 3) := dk_167 255 232 (dk_at dksX3_out_1 3 rfl rfl)
theorem dX3_out_29 : decode cX3_out 29 = .ok (.return_, 1) := dk_177 (dk_at dksX3_out_1 6 rfl rfl)
abbrev cX3_carried : ByteArray := prog_27_method_61_code
def yX3_carried : MethodName := ⟨RX3, "carried", "(IZ)D"⟩
def dkwX3_carried_7 : List UInt8 := [153, 0, 13, 42, 41, 24, 5, 182, 1, 44, 167, 0, 4, 41, 175]
abbrev dktX3_carried_7 : List UInt8 := dkwX3_carried_7 ++ []
def dkwX3_carried_6 : List UInt8 := [182, 1, 69, 41, 182, 1, 44, 182, 1, 44, 57, 5, 24, 12, 74, 132, 7, 1, 167, 255, 117, 28]
abbrev dktX3_carried_6 : List UInt8 := dkwX3_carried_6 ++ dktX3_carried_7
def dkwX3_carried_5 : List UInt8 := [24, 8, 182, 1, 44, 182, 1, 44, 57, 5, 167, 0, 24, 42, 24, 5, 42, 42, 24, 8, 24, 12]
abbrev dktX3_carried_5 : List UInt8 := dkwX3_carried_5 ++ dktX3_carried_6
def dkwX3_carried_4 : List UInt8 := [184, 0, 173, 24, 8, 184, 0, 173, 151, 155, 0, 27, 42, 24, 5, 42, 42, 41, 24, 12, 182, 1, 69]
abbrev dktX3_carried_4 : List UInt8 := dkwX3_carried_4 ++ dktX3_carried_5
def dkwX3_carried_3 : List UInt8 := [154, 0, 21, 42, 42, 24, 12, 41, 182, 1, 69, 24, 10, 182, 1, 69, 57, 5, 167, 0, 61, 41]
abbrev dktX3_carried_3 : List UInt8 := dkwX3_carried_3 ++ dktX3_carried_4
def dkwX3_carried_2 : List UInt8 := [167, 0, 11, 42, 24, 8, 24, 5, 182, 1, 69, 57, 10, 42, 41, 24, 10, 182, 1, 60, 57, 12, 28]
abbrev dktX3_carried_2 : List UInt8 := dkwX3_carried_2 ++ dktX3_carried_3
def dkwX3_carried_1 : List UInt8 := [162, 0, 134, 42, 180, 0, 17, 16, 60, 27, 104, 21, 7, 96, 49, 57, 8, 28, 153, 0, 8, 24, 8]
abbrev dktX3_carried_1 : List UInt8 := dkwX3_carried_1 ++ dktX3_carried_2
def dkwX3_carried_0 : List UInt8 := [42, 180, 0, 17, 16, 60, 27, 104, 49, 74, 14, 57, 5, 4, 54, 7, 21, 7, 42, 180, 0, 7, 27, 46]
abbrev dktX3_carried_0 : List UInt8 := dkwX3_carried_0 ++ dktX3_carried_1
theorem dksX3_carried_0 : cX3_carried.data.toList.drop 0 = dktX3_carried_0 := by decide +kernel
theorem dksX3_carried_1 : cX3_carried.data.toList.drop 24 = dktX3_carried_1 := dk_seg dksX3_carried_0 24 rfl rfl
theorem dksX3_carried_2 : cX3_carried.data.toList.drop 47 = dktX3_carried_2 := dk_seg dksX3_carried_1 23 rfl rfl
theorem dksX3_carried_3 : cX3_carried.data.toList.drop 70 = dktX3_carried_3 := dk_seg dksX3_carried_2 23 rfl rfl
theorem dksX3_carried_4 : cX3_carried.data.toList.drop 92 = dktX3_carried_4 := dk_seg dksX3_carried_3 22 rfl rfl
theorem dksX3_carried_5 : cX3_carried.data.toList.drop 115 = dktX3_carried_5 := dk_seg dksX3_carried_4 23 rfl rfl
theorem dksX3_carried_6 : cX3_carried.data.toList.drop 137 = dktX3_carried_6 := dk_seg dksX3_carried_5 22 rfl rfl
theorem dksX3_carried_7 : cX3_carried.data.toList.drop 159 = dktX3_carried_7 := dk_seg dksX3_carried_6 22 rfl rfl
theorem dX3_carried_0 : decode cX3_carried 0 = .ok (.aload_n 0, 1) := dk_42 (dk_at dksX3_carried_0 0 rfl rfl)
theorem dX3_carried_1 : decode cX3_carried 1 = .ok (.getfield 17, 3) := dk_180 0 17 (dk_at dksX3_carried_0 1 rfl rfl)
theorem dX3_carried_4 : decode cX3_carried 4 = .ok (.bipush 60, 2) := dk_16 60 (dk_at dksX3_carried_0 4 rfl rfl)
theorem dX3_carried_6 : decode cX3_carried 6 = .ok (.iload_n 1, 1) := dk_27 (dk_at dksX3_carried_0 6 rfl rfl)
theorem dX3_carried_7 : decode cX3_carried 7 = .ok (.imul, 1) := dk_104 (dk_at dksX3_carried_0 7 rfl rfl)
theorem dX3_carried_8 : decode cX3_carried 8 = .ok (.daload, 1) := dk_49 (dk_at dksX3_carried_0 8 rfl rfl)
theorem dX3_carried_9 : decode cX3_carried 9 = .ok (.dstore_n 3, 1) := dk_74 (dk_at dksX3_carried_0 9 rfl rfl)
theorem dX3_carried_10 : decode cX3_carried 10 = .ok (.dconst 0, 1) := dk_14 (dk_at dksX3_carried_0 10 rfl rfl)
theorem dX3_carried_11 : decode cX3_carried 11 = .ok (.dstore 5, 2) := dk_57 5 (dk_at dksX3_carried_0 11 rfl rfl)
theorem dX3_carried_13 : decode cX3_carried 13 = .ok (.iconst 1, 1) := dk_4 (dk_at dksX3_carried_0 13 rfl rfl)
theorem dX3_carried_14 : decode cX3_carried 14 = .ok (.istore 7, 2) := dk_54 7 (dk_at dksX3_carried_0 14 rfl rfl)
theorem dX3_carried_16 : decode cX3_carried 16 = .ok (.iload 7, 2) := dk_21 7 (dk_at dksX3_carried_0 16 rfl rfl)
theorem dX3_carried_18 : decode cX3_carried 18 = .ok (.aload_n 0, 1) := dk_42 (dk_at dksX3_carried_0 18 rfl rfl)
theorem dX3_carried_19 : decode cX3_carried 19 = .ok (.getfield 7, 3) := dk_180 0 7 (dk_at dksX3_carried_0 19 rfl rfl)
theorem dX3_carried_22 : decode cX3_carried 22 = .ok (.iload_n 1, 1) := dk_27 (dk_at dksX3_carried_0 22 rfl rfl)
theorem dX3_carried_23 : decode cX3_carried 23 = .ok (.iaload, 1) := dk_46 (dk_at dksX3_carried_0 23 rfl rfl)
theorem dX3_carried_24 : decode cX3_carried 24 = .ok (.if_icmp .ge 134, 3) := dk_162 0 134 (dk_at dksX3_carried_1 0 rfl rfl)
theorem dX3_carried_27 : decode cX3_carried 27 = .ok (.aload_n 0, 1) := dk_42 (dk_at dksX3_carried_1 3 rfl rfl)
theorem dX3_carried_28 : decode cX3_carried 28 = .ok (.getfield 17, 3) := dk_180 0 17 (dk_at dksX3_carried_1 4 rfl rfl)
theorem dX3_carried_31 : decode cX3_carried 31 = .ok (.bipush 60, 2) := dk_16 60 (dk_at dksX3_carried_1 7 rfl rfl)
theorem dX3_carried_33 : decode cX3_carried 33 = .ok (.iload_n 1, 1) := dk_27 (dk_at dksX3_carried_1 9 rfl rfl)
theorem dX3_carried_34 : decode cX3_carried 34 = .ok (.imul, 1) := dk_104 (dk_at dksX3_carried_1 10 rfl rfl)
theorem dX3_carried_35 : decode cX3_carried 35 = .ok (.iload 7, 2) := dk_21 7 (dk_at dksX3_carried_1 11 rfl rfl)
theorem dX3_carried_37 : decode cX3_carried 37 = .ok (.iadd, 1) := dk_96 (dk_at dksX3_carried_1 13 rfl rfl)
theorem dX3_carried_38 : decode cX3_carried 38 = .ok (.daload, 1) := dk_49 (dk_at dksX3_carried_1 14 rfl rfl)
theorem dX3_carried_39 : decode cX3_carried 39 = .ok (.dstore 8, 2) := dk_57 8 (dk_at dksX3_carried_1 15 rfl rfl)
theorem dX3_carried_41 : decode cX3_carried 41 = .ok (.iload_n 2, 1) := dk_28 (dk_at dksX3_carried_1 17 rfl rfl)
theorem dX3_carried_42 : decode cX3_carried 42 = .ok (.ifCond .eq 8, 3) := dk_153 0 8 (dk_at dksX3_carried_1 18 rfl rfl)
theorem dX3_carried_45 : decode cX3_carried 45 = .ok (.dload 8, 2) := dk_24 8 (dk_at dksX3_carried_1 21 rfl rfl)
theorem dX3_carried_47 : decode cX3_carried 47 = .ok (.goto 11, 3) := dk_167 0 11 (dk_at dksX3_carried_2 0 rfl rfl)
theorem dX3_carried_50 : decode cX3_carried 50 = .ok (.aload_n 0, 1) := dk_42 (dk_at dksX3_carried_2 3 rfl rfl)
theorem dX3_carried_51 : decode cX3_carried 51 = .ok (.dload 8, 2) := dk_24 8 (dk_at dksX3_carried_2 4 rfl rfl)
theorem dX3_carried_53 : decode cX3_carried 53 = .ok (.dload 5, 2) := dk_24 5 (dk_at dksX3_carried_2 6 rfl rfl)
theorem dX3_carried_55 : decode cX3_carried 55 = .ok (.invokevirtual 325, 3) := dk_182 1 69 (dk_at dksX3_carried_2 8 rfl rfl)
theorem dX3_carried_58 : decode cX3_carried 58 = .ok (.dstore 10, 2) := dk_57 10 (dk_at dksX3_carried_2 11 rfl rfl)
theorem dX3_carried_60 : decode cX3_carried 60 = .ok (.aload_n 0, 1) := dk_42 (dk_at dksX3_carried_2 13 rfl rfl)
theorem dX3_carried_61 : decode cX3_carried 61 = .ok (.dload_n 3, 1) := dk_41 (dk_at dksX3_carried_2 14 rfl rfl)
theorem dX3_carried_62 : decode cX3_carried 62 = .ok (.dload 10, 2) := dk_24 10 (dk_at dksX3_carried_2 15 rfl rfl)
theorem dX3_carried_64 : decode cX3_carried 64 = .ok (.invokevirtual 316, 3) := dk_182 1 60 (dk_at dksX3_carried_2 17 rfl rfl)
theorem dX3_carried_67 : decode cX3_carried 67 = .ok (.dstore 12, 2) := dk_57 12 (dk_at dksX3_carried_2 20 rfl rfl)
theorem dX3_carried_69 : decode cX3_carried 69 = .ok (.iload_n 2, 1) := dk_28 (dk_at dksX3_carried_2 22 rfl rfl)
theorem dX3_carried_70 : decode cX3_carried 70 = .ok (.ifCond .ne 21, 3) := dk_154 0 21 (dk_at dksX3_carried_3 0 rfl rfl)
theorem dX3_carried_73 : decode cX3_carried 73 = .ok (.aload_n 0, 1) := dk_42 (dk_at dksX3_carried_3 3 rfl rfl)
theorem dX3_carried_74 : decode cX3_carried 74 = .ok (.aload_n 0, 1) := dk_42 (dk_at dksX3_carried_3 4 rfl rfl)
theorem dX3_carried_75 : decode cX3_carried 75 = .ok (.dload 12, 2) := dk_24 12 (dk_at dksX3_carried_3 5 rfl rfl)
theorem dX3_carried_77 : decode cX3_carried 77 = .ok (.dload_n 3, 1) := dk_41 (dk_at dksX3_carried_3 7 rfl rfl)
theorem dX3_carried_78 : decode cX3_carried 78 = .ok (.invokevirtual 325, 3) := dk_182 1 69 (dk_at dksX3_carried_3 8 rfl rfl)
theorem dX3_carried_81 : decode cX3_carried 81 = .ok (.dload 10, 2) := dk_24 10 (dk_at dksX3_carried_3 11 rfl rfl)
theorem dX3_carried_83 : decode cX3_carried 83 = .ok (.invokevirtual 325, 3) := dk_182 1 69 (dk_at dksX3_carried_3 13 rfl rfl)
theorem dX3_carried_86 : decode cX3_carried 86 = .ok (.dstore 5, 2) := dk_57 5 (dk_at dksX3_carried_3 16 rfl rfl)
theorem dX3_carried_88 : decode cX3_carried 88 = .ok (.goto 61, 3) := dk_167 0 61 (dk_at dksX3_carried_3 18 rfl rfl)
theorem dX3_carried_91 : decode cX3_carried 91 = .ok (.dload_n 3, 1) := dk_41 (dk_at dksX3_carried_3 21 rfl rfl)
theorem dX3_carried_92 : decode cX3_carried 92 = .ok (.invokestatic 173, 3) := dk_184 0 173 (dk_at dksX3_carried_4 0 rfl rfl)
theorem dX3_carried_95 : decode cX3_carried 95 = .ok (.dload 8, 2) := dk_24 8 (dk_at dksX3_carried_4 3 rfl rfl)
theorem dX3_carried_97 : decode cX3_carried 97 = .ok (.invokestatic 173, 3) := dk_184 0 173 (dk_at dksX3_carried_4 5 rfl rfl)
theorem dX3_carried_100 : decode cX3_carried 100 = .ok (.dcmp .l, 1) := dk_151 (dk_at dksX3_carried_4 8 rfl rfl)
theorem dX3_carried_101 : decode cX3_carried 101 = .ok (.ifCond .lt 27, 3) := dk_155 0 27 (dk_at dksX3_carried_4 9 rfl rfl)
theorem dX3_carried_104 : decode cX3_carried 104 = .ok (.aload_n 0, 1) := dk_42 (dk_at dksX3_carried_4 12 rfl rfl)
theorem dX3_carried_105 : decode cX3_carried 105 = .ok (.dload 5, 2) := dk_24 5 (dk_at dksX3_carried_4 13 rfl rfl)
theorem dX3_carried_107 : decode cX3_carried 107 = .ok (.aload_n 0, 1) := dk_42 (dk_at dksX3_carried_4 15 rfl rfl)
theorem dX3_carried_108 : decode cX3_carried 108 = .ok (.aload_n 0, 1) := dk_42 (dk_at dksX3_carried_4 16 rfl rfl)
theorem dX3_carried_109 : decode cX3_carried 109 = .ok (.dload_n 3, 1) := dk_41 (dk_at dksX3_carried_4 17 rfl rfl)
theorem dX3_carried_110 : decode cX3_carried 110 = .ok (.dload 12, 2) := dk_24 12 (dk_at dksX3_carried_4 18 rfl rfl)
theorem dX3_carried_112 : decode cX3_carried 112 = .ok (.invokevirtual 325, 3) := dk_182 1 69 (dk_at dksX3_carried_4 20 rfl rfl)
theorem dX3_carried_115 : decode cX3_carried 115 = .ok (.dload 8, 2) := dk_24 8 (dk_at dksX3_carried_5 0 rfl rfl)
theorem dX3_carried_117 : decode cX3_carried 117 = .ok (.invokevirtual 300, 3) := dk_182 1 44 (dk_at dksX3_carried_5 2 rfl rfl)
theorem dX3_carried_120 : decode cX3_carried 120 = .ok (.invokevirtual 300, 3) := dk_182 1 44 (dk_at dksX3_carried_5 5 rfl rfl)
theorem dX3_carried_123 : decode cX3_carried 123 = .ok (.dstore 5, 2) := dk_57 5 (dk_at dksX3_carried_5 8 rfl rfl)
theorem dX3_carried_125 : decode cX3_carried 125 = .ok (.goto 24, 3) := dk_167 0 24 (dk_at dksX3_carried_5 10 rfl rfl)
theorem dX3_carried_128 : decode cX3_carried 128 = .ok (.aload_n 0, 1) := dk_42 (dk_at dksX3_carried_5 13 rfl rfl)
theorem dX3_carried_129 : decode cX3_carried 129 = .ok (.dload 5, 2) := dk_24 5 (dk_at dksX3_carried_5 14 rfl rfl)
theorem dX3_carried_131 : decode cX3_carried 131 = .ok (.aload_n 0, 1) := dk_42 (dk_at dksX3_carried_5 16 rfl rfl)
theorem dX3_carried_132 : decode cX3_carried 132 = .ok (.aload_n 0, 1) := dk_42 (dk_at dksX3_carried_5 17 rfl rfl)
theorem dX3_carried_133 : decode cX3_carried 133 = .ok (.dload 8, 2) := dk_24 8 (dk_at dksX3_carried_5 18 rfl rfl)
theorem dX3_carried_135 : decode cX3_carried 135 = .ok (.dload 12, 2) := dk_24 12 (dk_at dksX3_carried_5 20 rfl rfl)
theorem dX3_carried_137 : decode cX3_carried 137 = .ok (.invokevirtual 325, 3) := dk_182 1 69 (dk_at dksX3_carried_6 0 rfl rfl)
theorem dX3_carried_140 : decode cX3_carried 140 = .ok (.dload_n 3, 1) := dk_41 (dk_at dksX3_carried_6 3 rfl rfl)
theorem dX3_carried_141 : decode cX3_carried 141 = .ok (.invokevirtual 300, 3) := dk_182 1 44 (dk_at dksX3_carried_6 4 rfl rfl)
theorem dX3_carried_144 : decode cX3_carried 144 = .ok (.invokevirtual 300, 3) := dk_182 1 44 (dk_at dksX3_carried_6 7 rfl rfl)
theorem dX3_carried_147 : decode cX3_carried 147 = .ok (.dstore 5, 2) := dk_57 5 (dk_at dksX3_carried_6 10 rfl rfl)
theorem dX3_carried_149 : decode cX3_carried 149 = .ok (.dload 12, 2) := dk_24 12 (dk_at dksX3_carried_6 12 rfl rfl)
theorem dX3_carried_151 : decode cX3_carried 151 = .ok (.dstore_n 3, 1) := dk_74 (dk_at dksX3_carried_6 14 rfl rfl)
theorem dX3_carried_152 : decode cX3_carried 152 = .ok (.iinc 7 1, 3) := dk_132 7 1 (dk_at dksX3_carried_6 15 rfl rfl)
theorem dX3_carried_155 : decode cX3_carried 155 = .ok (.goto (-139), 3) := dk_167 255 117 (dk_at dksX3_carried_6 18 rfl rfl)
theorem dX3_carried_158 : decode cX3_carried 158 = .ok (.iload_n 2, 1) := dk_28 (dk_at dksX3_carried_6 21 rfl rfl)
theorem dX3_carried_159 : decode cX3_carried 159 = .ok (.ifCond .eq 13, 3) := dk_153 0 13 (dk_at dksX3_carried_7 0 rfl rfl)
theorem dX3_carried_162 : decode cX3_carried 162 = .ok (.aload_n 0, 1) := dk_42 (dk_at dksX3_carried_7 3 rfl rfl)
theorem dX3_carried_163 : decode cX3_carried 163 = .ok (.dload_n 3, 1) := dk_41 (dk_at dksX3_carried_7 4 rfl rfl)
theorem dX3_carried_164 : decode cX3_carried 164 = .ok (.dload 5, 2) := dk_24 5 (dk_at dksX3_carried_7 5 rfl rfl)
theorem dX3_carried_166 : decode cX3_carried 166 = .ok (.invokevirtual 300, 3) := dk_182 1 44 (dk_at dksX3_carried_7 7 rfl rfl)
theorem dX3_carried_169 : decode cX3_carried 169 = .ok (.goto 4, 3) := dk_167 0 4 (dk_at dksX3_carried_7 10 rfl rfl)
theorem dX3_carried_172 : decode cX3_carried 172 = .ok (.dload_n 3, 1) := dk_41 (dk_at dksX3_carried_7 13 rfl rfl)
theorem dX3_carried_173 : decode cX3_carried 173 = .ok (.dreturn, 1) := dk_175 (dk_at dksX3_carried_7 14 rfl rfl)
abbrev cX3_less : ByteArray := prog_27_method_24_code
def yX3_less : MethodName := ⟨RX3, "less", "(DD)D"⟩
def dkwX3_less_0 : List UInt8 := [42, 180, 0, 167, 153, 0, 9, 39, 41, 103, 167, 0, 9, 39, 144, 41, 144, 102, 141, 175]
abbrev dktX3_less_0 : List UInt8 := dkwX3_less_0 ++ []
theorem dksX3_less_0 : cX3_less.data.toList.drop 0 = dktX3_less_0 := by decide +kernel
theorem dX3_less_0 : decode cX3_less 0 = .ok (.aload_n 0, 1) := dk_42 (dk_at dksX3_less_0 0 rfl rfl)
theorem dX3_less_1 : decode cX3_less 1 = .ok (.getfield 167, 3) := dk_180 0 167 (dk_at dksX3_less_0 1 rfl rfl)
theorem dX3_less_4 : decode cX3_less 4 = .ok (.ifCond .eq 9, 3) := dk_153 0 9 (dk_at dksX3_less_0 4 rfl rfl)
theorem dX3_less_7 : decode cX3_less 7 = .ok (.dload_n 1, 1) := dk_39 (dk_at dksX3_less_0 7 rfl rfl)
theorem dX3_less_8 : decode cX3_less 8 = .ok (.dload_n 3, 1) := dk_41 (dk_at dksX3_less_0 8 rfl rfl)
theorem dX3_less_9 : decode cX3_less 9 = .ok (.dsub, 1) := dk_103 (dk_at dksX3_less_0 9 rfl rfl)
theorem dX3_less_10 : decode cX3_less 10 = .ok (.goto 9, 3) := dk_167 0 9 (dk_at dksX3_less_0 10 rfl rfl)
theorem dX3_less_13 : decode cX3_less 13 = .ok (.dload_n 1, 1) := dk_39 (dk_at dksX3_less_0 13 rfl rfl)
theorem dX3_less_14 : decode cX3_less 14 = .ok (.d2f, 1) := dk_144 (dk_at dksX3_less_0 14 rfl rfl)
theorem dX3_less_15 : decode cX3_less 15 = .ok (.dload_n 3, 1) := dk_41 (dk_at dksX3_less_0 15 rfl rfl)
theorem dX3_less_16 : decode cX3_less 16 = .ok (.d2f, 1) := dk_144 (dk_at dksX3_less_0 16 rfl rfl)
theorem dX3_less_17 : decode cX3_less 17 = .ok (.fsub, 1) := dk_102 (dk_at dksX3_less_0 17 rfl rfl)
theorem dX3_less_18 : decode cX3_less 18 = .ok (.f2d, 1) := dk_141 (dk_at dksX3_less_0 18 rfl rfl)
theorem dX3_less_19 : decode cX3_less 19 = .ok (.dreturn, 1) := dk_175 (dk_at dksX3_less_0 19 rfl rfl)
abbrev cX3_inOrder : ByteArray := prog_27_method_55_code
def yX3_inOrder : MethodName := ⟨RX3, "inOrder", "(II)D"⟩
def dkwX3_inOrder_4 : List UInt8 := [132, 5, 1, 167, 255, 186, 41, 175]
abbrev dktX3_inOrder_4 : List UInt8 := dkwX3_inOrder_4 ++ []
def dkwX3_inOrder_3 : List UInt8 := [41, 24, 6, 41, 24, 6, 99, 144, 141, 182, 1, 47, 167, 0, 10, 42, 41, 24, 6, 182, 1, 60, 74]
abbrev dktX3_inOrder_3 : List UInt8 := dkwX3_inOrder_3 ++ dktX3_inOrder_4
def dkwX3_inOrder_2 : List UInt8 := [180, 0, 54, 21, 5, 46, 96, 49, 57, 6, 28, 16, 7, 160, 0, 26, 42, 180, 0, 167, 153, 0, 19, 42]
abbrev dktX3_inOrder_2 : List UInt8 := dkwX3_inOrder_2 ++ dktX3_inOrder_3
def dkwX3_inOrder_1 : List UInt8 := [54, 5, 21, 5, 42, 180, 0, 7, 27, 46, 162, 0, 65, 42, 180, 0, 17, 16, 60, 27, 104, 42]
abbrev dktX3_inOrder_1 : List UInt8 := dkwX3_inOrder_1 ++ dktX3_inOrder_2
def dkwX3_inOrder_0 : List UInt8 := [42, 27, 28, 182, 1, 57, 42, 180, 0, 17, 16, 60, 27, 104, 42, 180, 0, 54, 3, 46, 96, 49, 74, 4]
abbrev dktX3_inOrder_0 : List UInt8 := dkwX3_inOrder_0 ++ dktX3_inOrder_1
theorem dksX3_inOrder_0 : cX3_inOrder.data.toList.drop 0 = dktX3_inOrder_0 := by decide +kernel
theorem dksX3_inOrder_1 : cX3_inOrder.data.toList.drop 24 = dktX3_inOrder_1 := dk_seg dksX3_inOrder_0 24 rfl rfl
theorem dksX3_inOrder_2 : cX3_inOrder.data.toList.drop 46 = dktX3_inOrder_2 := dk_seg dksX3_inOrder_1 22 rfl rfl
theorem dksX3_inOrder_3 : cX3_inOrder.data.toList.drop 70 = dktX3_inOrder_3 := dk_seg dksX3_inOrder_2 24 rfl rfl
theorem dksX3_inOrder_4 : cX3_inOrder.data.toList.drop 93 = dktX3_inOrder_4 := dk_seg dksX3_inOrder_3 23 rfl rfl
theorem dX3_inOrder_0 : decode cX3_inOrder 0 = .ok (.aload_n 0, 1) := dk_42 (dk_at dksX3_inOrder_0 0 rfl rfl)
theorem dX3_inOrder_1 : decode cX3_inOrder 1 = .ok (.iload_n 1, 1) := dk_27 (dk_at dksX3_inOrder_0 1 rfl rfl)
theorem dX3_inOrder_2 : decode cX3_inOrder 2 = .ok (.iload_n 2, 1) := dk_28 (dk_at dksX3_inOrder_0 2 rfl rfl)
theorem dX3_inOrder_3 : decode cX3_inOrder 3 = .ok (.invokevirtual 313, 3) := dk_182 1 57 (dk_at dksX3_inOrder_0 3 rfl rfl)
theorem dX3_inOrder_6 : decode cX3_inOrder 6 = .ok (.aload_n 0, 1) := dk_42 (dk_at dksX3_inOrder_0 6 rfl rfl)
theorem dX3_inOrder_7 : decode cX3_inOrder 7 = .ok (.getfield 17, 3) := dk_180 0 17 (dk_at dksX3_inOrder_0 7 rfl rfl)
theorem dX3_inOrder_10 : decode cX3_inOrder 10 = .ok (.bipush 60, 2) := dk_16 60 (dk_at dksX3_inOrder_0 10 rfl rfl)
theorem dX3_inOrder_12 : decode cX3_inOrder 12 = .ok (.iload_n 1, 1) := dk_27 (dk_at dksX3_inOrder_0 12 rfl rfl)
theorem dX3_inOrder_13 : decode cX3_inOrder 13 = .ok (.imul, 1) := dk_104 (dk_at dksX3_inOrder_0 13 rfl rfl)
theorem dX3_inOrder_14 : decode cX3_inOrder 14 = .ok (.aload_n 0, 1) := dk_42 (dk_at dksX3_inOrder_0 14 rfl rfl)
theorem dX3_inOrder_15 : decode cX3_inOrder 15 = .ok (.getfield 54, 3) := dk_180 0 54 (dk_at dksX3_inOrder_0 15 rfl rfl)
theorem dX3_inOrder_18 : decode cX3_inOrder 18 = .ok (.iconst 0, 1) := dk_3 (dk_at dksX3_inOrder_0 18 rfl rfl)
theorem dX3_inOrder_19 : decode cX3_inOrder 19 = .ok (.iaload, 1) := dk_46 (dk_at dksX3_inOrder_0 19 rfl rfl)
theorem dX3_inOrder_20 : decode cX3_inOrder 20 = .ok (.iadd, 1) := dk_96 (dk_at dksX3_inOrder_0 20 rfl rfl)
theorem dX3_inOrder_21 : decode cX3_inOrder 21 = .ok (.daload, 1) := dk_49 (dk_at dksX3_inOrder_0 21 rfl rfl)
theorem dX3_inOrder_22 : decode cX3_inOrder 22 = .ok (.dstore_n 3, 1) := dk_74 (dk_at dksX3_inOrder_0 22 rfl rfl)
theorem dX3_inOrder_23 : decode cX3_inOrder 23 = .ok (.iconst 1, 1) := dk_4 (dk_at dksX3_inOrder_0 23 rfl rfl)
theorem dX3_inOrder_24 : decode cX3_inOrder 24 = .ok (.istore 5, 2) := dk_54 5 (dk_at dksX3_inOrder_1 0 rfl rfl)
theorem dX3_inOrder_26 : decode cX3_inOrder 26 = .ok (.iload 5, 2) := dk_21 5 (dk_at dksX3_inOrder_1 2 rfl rfl)
theorem dX3_inOrder_28 : decode cX3_inOrder 28 = .ok (.aload_n 0, 1) := dk_42 (dk_at dksX3_inOrder_1 4 rfl rfl)
theorem dX3_inOrder_29 : decode cX3_inOrder 29 = .ok (.getfield 7, 3) := dk_180 0 7 (dk_at dksX3_inOrder_1 5 rfl rfl)
theorem dX3_inOrder_32 : decode cX3_inOrder 32 = .ok (.iload_n 1, 1) := dk_27 (dk_at dksX3_inOrder_1 8 rfl rfl)
theorem dX3_inOrder_33 : decode cX3_inOrder 33 = .ok (.iaload, 1) := dk_46 (dk_at dksX3_inOrder_1 9 rfl rfl)
theorem dX3_inOrder_34 : decode cX3_inOrder 34 = .ok (.if_icmp .ge 65, 3) := dk_162 0 65 (dk_at dksX3_inOrder_1 10 rfl rfl)
theorem dX3_inOrder_37 : decode cX3_inOrder 37 = .ok (.aload_n 0, 1) := dk_42 (dk_at dksX3_inOrder_1 13 rfl rfl)
theorem dX3_inOrder_38 : decode cX3_inOrder 38 = .ok (.getfield 17, 3) := dk_180 0 17 (dk_at dksX3_inOrder_1 14 rfl rfl)
theorem dX3_inOrder_41 : decode cX3_inOrder 41 = .ok (.bipush 60, 2) := dk_16 60 (dk_at dksX3_inOrder_1 17 rfl rfl)
theorem dX3_inOrder_43 : decode cX3_inOrder 43 = .ok (.iload_n 1, 1) := dk_27 (dk_at dksX3_inOrder_1 19 rfl rfl)
theorem dX3_inOrder_44 : decode cX3_inOrder 44 = .ok (.imul, 1) := dk_104 (dk_at dksX3_inOrder_1 20 rfl rfl)
theorem dX3_inOrder_45 : decode cX3_inOrder 45 = .ok (.aload_n 0, 1) := dk_42 (dk_at dksX3_inOrder_1 21 rfl rfl)
theorem dX3_inOrder_46 : decode cX3_inOrder 46 = .ok (.getfield 54, 3) := dk_180 0 54 (dk_at dksX3_inOrder_2 0 rfl rfl)
theorem dX3_inOrder_49 : decode cX3_inOrder 49 = .ok (.iload 5, 2) := dk_21 5 (dk_at dksX3_inOrder_2 3 rfl rfl)
theorem dX3_inOrder_51 : decode cX3_inOrder 51 = .ok (.iaload, 1) := dk_46 (dk_at dksX3_inOrder_2 5 rfl rfl)
theorem dX3_inOrder_52 : decode cX3_inOrder 52 = .ok (.iadd, 1) := dk_96 (dk_at dksX3_inOrder_2 6 rfl rfl)
theorem dX3_inOrder_53 : decode cX3_inOrder 53 = .ok (.daload, 1) := dk_49 (dk_at dksX3_inOrder_2 7 rfl rfl)
theorem dX3_inOrder_54 : decode cX3_inOrder 54 = .ok (.dstore 6, 2) := dk_57 6 (dk_at dksX3_inOrder_2 8 rfl rfl)
theorem dX3_inOrder_56 : decode cX3_inOrder 56 = .ok (.iload_n 2, 1) := dk_28 (dk_at dksX3_inOrder_2 10 rfl rfl)
theorem dX3_inOrder_57 : decode cX3_inOrder 57 = .ok (.bipush 7, 2) := dk_16 7 (dk_at dksX3_inOrder_2 11 rfl rfl)
theorem dX3_inOrder_59 : decode cX3_inOrder 59 = .ok (.if_icmp .ne 26, 3) := dk_160 0 26 (dk_at dksX3_inOrder_2 13 rfl rfl)
theorem dX3_inOrder_62 : decode cX3_inOrder 62 = .ok (.aload_n 0, 1) := dk_42 (dk_at dksX3_inOrder_2 16 rfl rfl)
theorem dX3_inOrder_63 : decode cX3_inOrder 63 = .ok (.getfield 167, 3) := dk_180 0 167 (dk_at dksX3_inOrder_2 17 rfl rfl)
theorem dX3_inOrder_66 : decode cX3_inOrder 66 = .ok (.ifCond .eq 19, 3) := dk_153 0 19 (dk_at dksX3_inOrder_2 20 rfl rfl)
theorem dX3_inOrder_69 : decode cX3_inOrder 69 = .ok (.aload_n 0, 1) := dk_42 (dk_at dksX3_inOrder_2 23 rfl rfl)
theorem dX3_inOrder_70 : decode cX3_inOrder 70 = .ok (.dload_n 3, 1) := dk_41 (dk_at dksX3_inOrder_3 0 rfl rfl)
theorem dX3_inOrder_71 : decode cX3_inOrder 71 = .ok (.dload 6, 2) := dk_24 6 (dk_at dksX3_inOrder_3 1 rfl rfl)
theorem dX3_inOrder_73 : decode cX3_inOrder 73 = .ok (.dload_n 3, 1) := dk_41 (dk_at dksX3_inOrder_3 3 rfl rfl)
theorem dX3_inOrder_74 : decode cX3_inOrder 74 = .ok (.dload 6, 2) := dk_24 6 (dk_at dksX3_inOrder_3 4 rfl rfl)
theorem dX3_inOrder_76 : decode cX3_inOrder 76 = .ok (.dadd, 1) := dk_99 (dk_at dksX3_inOrder_3 6 rfl rfl)
theorem dX3_inOrder_77 : decode cX3_inOrder 77 = .ok (.d2f, 1) := dk_144 (dk_at dksX3_inOrder_3 7 rfl rfl)
theorem dX3_inOrder_78 : decode cX3_inOrder 78 = .ok (.f2d, 1) := dk_141 (dk_at dksX3_inOrder_3 8 rfl rfl)
theorem dX3_inOrder_79 : decode cX3_inOrder 79 = .ok (.invokevirtual 303, 3) := dk_182 1 47 (dk_at dksX3_inOrder_3 9 rfl rfl)
theorem dX3_inOrder_82 : decode cX3_inOrder 82 = .ok (.goto 10, 3) := dk_167 0 10 (dk_at dksX3_inOrder_3 12 rfl rfl)
theorem dX3_inOrder_85 : decode cX3_inOrder 85 = .ok (.aload_n 0, 1) := dk_42 (dk_at dksX3_inOrder_3 15 rfl rfl)
theorem dX3_inOrder_86 : decode cX3_inOrder 86 = .ok (.dload_n 3, 1) := dk_41 (dk_at dksX3_inOrder_3 16 rfl rfl)
theorem dX3_inOrder_87 : decode cX3_inOrder 87 = .ok (.dload 6, 2) := dk_24 6 (dk_at dksX3_inOrder_3 17 rfl rfl)
theorem dX3_inOrder_89 : decode cX3_inOrder 89 = .ok (.invokevirtual 316, 3) := dk_182 1 60 (dk_at dksX3_inOrder_3 19 rfl rfl)
theorem dX3_inOrder_92 : decode cX3_inOrder 92 = .ok (.dstore_n 3, 1) := dk_74 (dk_at dksX3_inOrder_3 22 rfl rfl)
theorem dX3_inOrder_93 : decode cX3_inOrder 93 = .ok (.iinc 5 1, 3) := dk_132 5 1 (dk_at dksX3_inOrder_4 0 rfl rfl)
theorem dX3_inOrder_96 : decode cX3_inOrder 96 = .ok (.goto (-70), 3) := dk_167 255 186 (dk_at dksX3_inOrder_4 3 rfl rfl)
theorem dX3_inOrder_99 : decode cX3_inOrder 99 = .ok (.dload_n 3, 1) := dk_41 (dk_at dksX3_inOrder_4 6 rfl rfl)
theorem dX3_inOrder_100 : decode cX3_inOrder 100 = .ok (.dreturn, 1) := dk_175 (dk_at dksX3_inOrder_4 7 rfl rfl)
abbrev cX3_orderBy : ByteArray := prog_27_method_54_code
def yX3_orderBy : MethodName := ⟨RX3, "orderBy", "(II)V"⟩
def dkwX3_orderBy_5 : List UInt8 := [167, 255, 198, 42, 180, 0, 54, 21, 5, 21, 4, 79, 132, 3, 1, 167, 255, 129, 177]
abbrev dktX3_orderBy_5 : List UInt8 := dkwX3_orderBy_5 ++ []
def dkwX3_orderBy_4 : List UInt8 := [153, 0, 25, 42, 180, 0, 54, 21, 5, 42, 180, 0, 54, 21, 5, 4, 100, 46, 79, 132, 5, 255]
abbrev dktX3_orderBy_4 : List UInt8 := dkwX3_orderBy_4 ++ dktX3_orderBy_5
def dkwX3_orderBy_3 : List UInt8 := [21, 5, 158, 0, 45, 42, 27, 28, 21, 4, 42, 180, 0, 54, 21, 5, 4, 100, 46, 182, 1, 53]
abbrev dktX3_orderBy_3 : List UInt8 := dkwX3_orderBy_3 ++ dktX3_orderBy_4
def dkwX3_orderBy_2 : List UInt8 := [167, 0, 4, 29, 54, 4, 29, 54, 5, 28, 133, 20, 0, 146, 20, 1, 51, 184, 0, 99, 153, 0, 50]
abbrev dktX3_orderBy_2 : List UInt8 := dkwX3_orderBy_2 ++ dktX3_orderBy_3
def dkwX3_orderBy_1 : List UInt8 := [100, 29, 100, 167, 0, 24, 28, 16, 6, 160, 0, 17, 42, 180, 0, 30, 16, 60, 27, 104, 29, 96, 46]
abbrev dktX3_orderBy_1 : List UInt8 := dkwX3_orderBy_1 ++ dktX3_orderBy_2
def dkwX3_orderBy_0 : List UInt8 := [3, 62, 29, 42, 180, 0, 7, 27, 46, 162, 0, 123, 28, 4, 160, 0, 16, 42, 180, 0, 7, 27, 46, 4]
abbrev dktX3_orderBy_0 : List UInt8 := dkwX3_orderBy_0 ++ dktX3_orderBy_1
theorem dksX3_orderBy_0 : cX3_orderBy.data.toList.drop 0 = dktX3_orderBy_0 := by decide +kernel
theorem dksX3_orderBy_1 : cX3_orderBy.data.toList.drop 24 = dktX3_orderBy_1 := dk_seg dksX3_orderBy_0 24 rfl rfl
theorem dksX3_orderBy_2 : cX3_orderBy.data.toList.drop 47 = dktX3_orderBy_2 := dk_seg dksX3_orderBy_1 23 rfl rfl
theorem dksX3_orderBy_3 : cX3_orderBy.data.toList.drop 70 = dktX3_orderBy_3 := dk_seg dksX3_orderBy_2 23 rfl rfl
theorem dksX3_orderBy_4 : cX3_orderBy.data.toList.drop 92 = dktX3_orderBy_4 := dk_seg dksX3_orderBy_3 22 rfl rfl
theorem dksX3_orderBy_5 : cX3_orderBy.data.toList.drop 114 = dktX3_orderBy_5 := dk_seg dksX3_orderBy_4 22 rfl rfl
theorem dX3_orderBy_0 : decode cX3_orderBy 0 = .ok (.iconst 0, 1) := dk_3 (dk_at dksX3_orderBy_0 0 rfl rfl)
theorem dX3_orderBy_1 : decode cX3_orderBy 1 = .ok (.istore_n 3, 1) := dk_62 (dk_at dksX3_orderBy_0 1 rfl rfl)
theorem dX3_orderBy_2 : decode cX3_orderBy 2 = .ok (.iload_n 3, 1) := dk_29 (dk_at dksX3_orderBy_0 2 rfl rfl)
theorem dX3_orderBy_3 : decode cX3_orderBy 3 = .ok (.aload_n 0, 1) := dk_42 (dk_at dksX3_orderBy_0 3 rfl rfl)
theorem dX3_orderBy_4 : decode cX3_orderBy 4 = .ok (.getfield 7, 3) := dk_180 0 7 (dk_at dksX3_orderBy_0 4 rfl rfl)
theorem dX3_orderBy_7 : decode cX3_orderBy 7 = .ok (.iload_n 1, 1) := dk_27 (dk_at dksX3_orderBy_0 7 rfl rfl)
theorem dX3_orderBy_8 : decode cX3_orderBy 8 = .ok (.iaload, 1) := dk_46 (dk_at dksX3_orderBy_0 8 rfl rfl)
theorem dX3_orderBy_9 : decode cX3_orderBy 9 = .ok (.if_icmp .ge 123, 3) := dk_162 0 123 (dk_at dksX3_orderBy_0 9 rfl rfl)
theorem dX3_orderBy_12 : decode cX3_orderBy 12 = .ok (.iload_n 2, 1) := dk_28 (dk_at dksX3_orderBy_0 12 rfl rfl)
theorem dX3_orderBy_13 : decode cX3_orderBy 13 = .ok (.iconst 1, 1) := dk_4 (dk_at dksX3_orderBy_0 13 rfl rfl)
theorem dX3_orderBy_14 : decode cX3_orderBy 14 = .ok (.if_icmp .ne 16, 3) := dk_160 0 16 (dk_at dksX3_orderBy_0 14 rfl rfl)
theorem dX3_orderBy_17 : decode cX3_orderBy 17 = .ok (.aload_n 0, 1) := dk_42 (dk_at dksX3_orderBy_0 17 rfl rfl)
theorem dX3_orderBy_18 : decode cX3_orderBy 18 = .ok (.getfield 7, 3) := dk_180 0 7 (dk_at dksX3_orderBy_0 18 rfl rfl)
theorem dX3_orderBy_21 : decode cX3_orderBy 21 = .ok (.iload_n 1, 1) := dk_27 (dk_at dksX3_orderBy_0 21 rfl rfl)
theorem dX3_orderBy_22 : decode cX3_orderBy 22 = .ok (.iaload, 1) := dk_46 (dk_at dksX3_orderBy_0 22 rfl rfl)
theorem dX3_orderBy_23 : decode cX3_orderBy 23 = .ok (.iconst 1, 1) := dk_4 (dk_at dksX3_orderBy_0 23 rfl rfl)
theorem dX3_orderBy_24 : decode cX3_orderBy 24 = .ok (.isub, 1) := dk_100 (dk_at dksX3_orderBy_1 0 rfl rfl)
theorem dX3_orderBy_25 : decode cX3_orderBy 25 = .ok (.iload_n 3, 1) := dk_29 (dk_at dksX3_orderBy_1 1 rfl rfl)
theorem dX3_orderBy_26 : decode cX3_orderBy 26 = .ok (.isub, 1) := dk_100 (dk_at dksX3_orderBy_1 2 rfl rfl)
theorem dX3_orderBy_27 : decode cX3_orderBy 27 = .ok (.goto 24, 3) := dk_167 0 24 (dk_at dksX3_orderBy_1 3 rfl rfl)
theorem dX3_orderBy_30 : decode cX3_orderBy 30 = .ok (.iload_n 2, 1) := dk_28 (dk_at dksX3_orderBy_1 6 rfl rfl)
theorem dX3_orderBy_31 : decode cX3_orderBy 31 = .ok (.bipush 6, 2) := dk_16 6 (dk_at dksX3_orderBy_1 7 rfl rfl)
theorem dX3_orderBy_33 : decode cX3_orderBy 33 = .ok (.if_icmp .ne 17, 3) := dk_160 0 17 (dk_at dksX3_orderBy_1 9 rfl rfl)
theorem dX3_orderBy_36 : decode cX3_orderBy 36 = .ok (.aload_n 0, 1) := dk_42 (dk_at dksX3_orderBy_1 12 rfl rfl)
theorem dX3_orderBy_37 : decode cX3_orderBy 37 = .ok (.getfield 30, 3) := dk_180 0 30 (dk_at dksX3_orderBy_1 13 rfl rfl)
theorem dX3_orderBy_40 : decode cX3_orderBy 40 = .ok (.bipush 60, 2) := dk_16 60 (dk_at dksX3_orderBy_1 16 rfl rfl)
theorem dX3_orderBy_42 : decode cX3_orderBy 42 = .ok (.iload_n 1, 1) := dk_27 (dk_at dksX3_orderBy_1 18 rfl rfl)
theorem dX3_orderBy_43 : decode cX3_orderBy 43 = .ok (.imul, 1) := dk_104 (dk_at dksX3_orderBy_1 19 rfl rfl)
theorem dX3_orderBy_44 : decode cX3_orderBy 44 = .ok (.iload_n 3, 1) := dk_29 (dk_at dksX3_orderBy_1 20 rfl rfl)
theorem dX3_orderBy_45 : decode cX3_orderBy 45 = .ok (.iadd, 1) := dk_96 (dk_at dksX3_orderBy_1 21 rfl rfl)
theorem dX3_orderBy_46 : decode cX3_orderBy 46 = .ok (.iaload, 1) := dk_46 (dk_at dksX3_orderBy_1 22 rfl rfl)
theorem dX3_orderBy_47 : decode cX3_orderBy 47 = .ok (.goto 4, 3) := dk_167 0 4 (dk_at dksX3_orderBy_2 0 rfl rfl)
theorem dX3_orderBy_50 : decode cX3_orderBy 50 = .ok (.iload_n 3, 1) := dk_29 (dk_at dksX3_orderBy_2 3 rfl rfl)
theorem dX3_orderBy_51 : decode cX3_orderBy 51 = .ok (.istore 4, 2) := dk_54 4 (dk_at dksX3_orderBy_2 4 rfl rfl)
theorem dX3_orderBy_53 : decode cX3_orderBy 53 = .ok (.iload_n 3, 1) := dk_29 (dk_at dksX3_orderBy_2 6 rfl rfl)
theorem dX3_orderBy_54 : decode cX3_orderBy 54 = .ok (.istore 5, 2) := dk_54 5 (dk_at dksX3_orderBy_2 7 rfl rfl)
theorem dX3_orderBy_56 : decode cX3_orderBy 56 = .ok (.iload_n 2, 1) := dk_28 (dk_at dksX3_orderBy_2 9 rfl rfl)
theorem dX3_orderBy_57 : decode cX3_orderBy 57 = .ok (.i2l, 1) := dk_133 (dk_at dksX3_orderBy_2 10 rfl rfl)
theorem dX3_orderBy_58 : decode cX3_orderBy 58 = .ok (.ldc2_w 146, 3) := dk_20 0 146 (dk_at dksX3_orderBy_2 11 rfl rfl)
theorem dX3_orderBy_61 : decode cX3_orderBy 61 = .ok (.ldc2_w 307, 3) := dk_20 1 51 (dk_at dksX3_orderBy_2 14 rfl rfl)
theorem dX3_orderBy_64 : decode cX3_orderBy 64 = .ok (.invokestatic 99, 3) := dk_184 0 99 (dk_at dksX3_orderBy_2 17 rfl rfl)
theorem dX3_orderBy_67 : decode cX3_orderBy 67 = .ok (.ifCond .eq 50, 3) := dk_153 0 50 (dk_at dksX3_orderBy_2 20 rfl rfl)
theorem dX3_orderBy_70 : decode cX3_orderBy 70 = .ok (.iload 5, 2) := dk_21 5 (dk_at dksX3_orderBy_3 0 rfl rfl)
theorem dX3_orderBy_72 : decode cX3_orderBy 72 = .ok (.ifCond .le 45, 3) := dk_158 0 45 (dk_at dksX3_orderBy_3 2 rfl rfl)
theorem dX3_orderBy_75 : decode cX3_orderBy 75 = .ok (.aload_n 0, 1) := dk_42 (dk_at dksX3_orderBy_3 5 rfl rfl)
theorem dX3_orderBy_76 : decode cX3_orderBy 76 = .ok (.iload_n 1, 1) := dk_27 (dk_at dksX3_orderBy_3 6 rfl rfl)
theorem dX3_orderBy_77 : decode cX3_orderBy 77 = .ok (.iload_n 2, 1) := dk_28 (dk_at dksX3_orderBy_3 7 rfl rfl)
theorem dX3_orderBy_78 : decode cX3_orderBy 78 = .ok (.iload 4, 2) := dk_21 4 (dk_at dksX3_orderBy_3 8 rfl rfl)
theorem dX3_orderBy_80 : decode cX3_orderBy 80 = .ok (.aload_n 0, 1) := dk_42 (dk_at dksX3_orderBy_3 10 rfl rfl)
theorem dX3_orderBy_81 : decode cX3_orderBy 81 = .ok (.getfield 54, 3) := dk_180 0 54 (dk_at dksX3_orderBy_3 11 rfl rfl)
theorem dX3_orderBy_84 : decode cX3_orderBy 84 = .ok (.iload 5, 2) := dk_21 5 (dk_at dksX3_orderBy_3 14 rfl rfl)
theorem dX3_orderBy_86 : decode cX3_orderBy 86 = .ok (.iconst 1, 1) := dk_4 (dk_at dksX3_orderBy_3 16 rfl rfl)
theorem dX3_orderBy_87 : decode cX3_orderBy 87 = .ok (.isub, 1) := dk_100 (dk_at dksX3_orderBy_3 17 rfl rfl)
theorem dX3_orderBy_88 : decode cX3_orderBy 88 = .ok (.iaload, 1) := dk_46 (dk_at dksX3_orderBy_3 18 rfl rfl)
theorem dX3_orderBy_89 : decode cX3_orderBy 89 = .ok (.invokevirtual 309, 3) := dk_182 1 53 (dk_at dksX3_orderBy_3 19 rfl rfl)
theorem dX3_orderBy_92 : decode cX3_orderBy 92 = .ok (.ifCond .eq 25, 3) := dk_153 0 25 (dk_at dksX3_orderBy_4 0 rfl rfl)
theorem dX3_orderBy_95 : decode cX3_orderBy 95 = .ok (.aload_n 0, 1) := dk_42 (dk_at dksX3_orderBy_4 3 rfl rfl)
theorem dX3_orderBy_96 : decode cX3_orderBy 96 = .ok (.getfield 54, 3) := dk_180 0 54 (dk_at dksX3_orderBy_4 4 rfl rfl)
theorem dX3_orderBy_99 : decode cX3_orderBy 99 = .ok (.iload 5, 2) := dk_21 5 (dk_at dksX3_orderBy_4 7 rfl rfl)
theorem dX3_orderBy_101 : decode cX3_orderBy 101 = .ok (.aload_n 0, 1) := dk_42 (dk_at dksX3_orderBy_4 9 rfl rfl)
theorem dX3_orderBy_102 : decode cX3_orderBy 102 = .ok (.getfield 54, 3) := dk_180 0 54 (dk_at dksX3_orderBy_4 10 rfl rfl)
theorem dX3_orderBy_105 : decode cX3_orderBy 105 = .ok (.iload 5, 2) := dk_21 5 (dk_at dksX3_orderBy_4 13 rfl rfl)
theorem dX3_orderBy_107 : decode cX3_orderBy 107 = .ok (.iconst 1, 1) := dk_4 (dk_at dksX3_orderBy_4 15 rfl rfl)
theorem dX3_orderBy_108 : decode cX3_orderBy 108 = .ok (.isub, 1) := dk_100 (dk_at dksX3_orderBy_4 16 rfl rfl)
theorem dX3_orderBy_109 : decode cX3_orderBy 109 = .ok (.iaload, 1) := dk_46 (dk_at dksX3_orderBy_4 17 rfl rfl)
theorem dX3_orderBy_110 : decode cX3_orderBy 110 = .ok (.iastore, 1) := dk_79 (dk_at dksX3_orderBy_4 18 rfl rfl)
theorem dX3_orderBy_111 : decode cX3_orderBy 111 = .ok (.iinc 5 (-1), 3) := dk_132 5 255 (dk_at dksX3_orderBy_4 19 rfl rfl)
theorem dX3_orderBy_114 : decode cX3_orderBy 114 = .ok (.goto (-58), 3) := dk_167 255 198 (dk_at dksX3_orderBy_5 0 rfl rfl)
theorem dX3_orderBy_117 : decode cX3_orderBy 117 = .ok (.aload_n 0, 1) := dk_42 (dk_at dksX3_orderBy_5 3 rfl rfl)
theorem dX3_orderBy_118 : decode cX3_orderBy 118 = .ok (.getfield 54, 3) := dk_180 0 54 (dk_at dksX3_orderBy_5 4 rfl rfl)
theorem dX3_orderBy_121 : decode cX3_orderBy 121 = .ok (.iload 5, 2) := dk_21 5 (dk_at dksX3_orderBy_5 7 rfl rfl)
theorem dX3_orderBy_123 : decode cX3_orderBy 123 = .ok (.iload 4, 2) := dk_21 4 (dk_at dksX3_orderBy_5 9 rfl rfl)
theorem dX3_orderBy_125 : decode cX3_orderBy 125 = .ok (.iastore, 1) := dk_79 (dk_at dksX3_orderBy_5 11 rfl rfl)
theorem dX3_orderBy_126 : decode cX3_orderBy 126 = .ok (.iinc 3 1, 3) := dk_132 3 1 (dk_at dksX3_orderBy_5 12 rfl rfl)
theorem dX3_orderBy_129 : decode cX3_orderBy 129 = .ok (.goto (-127), 3) := dk_167 255 129 (dk_at dksX3_orderBy_5 15 rfl rfl)
theorem dX3_orderBy_132 : decode cX3_orderBy 132 = .ok (.return_, 1) := dk_177 (dk_at dksX3_orderBy_5 18 rfl rfl)
abbrev cX3_goesAhead : ByteArray := prog_27_method_53_code
def yX3_goesAhead : MethodName := ⟨RX3, "goesAhead", "(IIII)Z"⟩
def dkwX3_goesAhead_6 : List UInt8 := [42, 180, 0, 24, 16, 60, 27, 104, 21, 4, 96, 46, 162, 0, 7, 4, 167, 0, 4, 3, 172]
abbrev dktX3_goesAhead_6 : List UInt8 := dkwX3_goesAhead_6 ++ []
def dkwX3_goesAhead_5 : List UInt8 := [21, 4, 96, 46, 162, 0, 7, 4, 167, 0, 4, 3, 172, 42, 180, 0, 24, 16, 60, 27, 104, 29, 96, 46]
abbrev dktX3_goesAhead_5 : List UInt8 := dkwX3_goesAhead_5 ++ dktX3_goesAhead_6
def dkwX3_goesAhead_4 : List UInt8 := [167, 0, 4, 3, 172, 42, 180, 0, 21, 16, 60, 27, 104, 29, 96, 46, 42, 180, 0, 21, 16, 60, 27, 104]
abbrev dktX3_goesAhead_4 : List UInt8 := dkwX3_goesAhead_4 ++ dktX3_goesAhead_5
def dkwX3_goesAhead_3 : List UInt8 := [24, 5, 24, 7, 152, 156, 0, 7, 4, 167, 0, 4, 3, 172, 24, 5, 24, 7, 151, 158, 0, 7, 4]
abbrev dktX3_goesAhead_3 : List UInt8 := dkwX3_goesAhead_3 ++ dktX3_goesAhead_4
def dkwX3_goesAhead_2 : List UInt8 := [170, 0, 0, 0, 0, 86, 0, 0, 0, 2, 0, 0, 0, 4, 0, 0, 0, 26, 0, 0, 0, 40, 0, 0, 0, 54]
abbrev dktX3_goesAhead_2 : List UInt8 := dkwX3_goesAhead_2 ++ dktX3_goesAhead_3
def dkwX3_goesAhead_1 : List UInt8 := [21, 4, 96, 49, 184, 0, 173, 57, 7, 28]
abbrev dktX3_goesAhead_1 : List UInt8 := dkwX3_goesAhead_1 ++ dktX3_goesAhead_2
def dkwX3_goesAhead_0 : List UInt8 := [42, 180, 0, 17, 16, 60, 27, 104, 29, 96, 49, 184, 0, 173, 57, 5, 42, 180, 0, 17, 16, 60, 27, 104]
abbrev dktX3_goesAhead_0 : List UInt8 := dkwX3_goesAhead_0 ++ dktX3_goesAhead_1
theorem dksX3_goesAhead_0 : cX3_goesAhead.data.toList.drop 0 = dktX3_goesAhead_0 := by decide +kernel
theorem dksX3_goesAhead_1 : cX3_goesAhead.data.toList.drop 24 = dktX3_goesAhead_1 := dk_seg dksX3_goesAhead_0 24 rfl rfl
theorem dksX3_goesAhead_2 : cX3_goesAhead.data.toList.drop 34 = dktX3_goesAhead_2 := dk_seg dksX3_goesAhead_1 10 rfl rfl
theorem dksX3_goesAhead_3 : cX3_goesAhead.data.toList.drop 60 = dktX3_goesAhead_3 := dk_seg dksX3_goesAhead_2 26 rfl rfl
theorem dksX3_goesAhead_4 : cX3_goesAhead.data.toList.drop 83 = dktX3_goesAhead_4 := dk_seg dksX3_goesAhead_3 23 rfl rfl
theorem dksX3_goesAhead_5 : cX3_goesAhead.data.toList.drop 107 = dktX3_goesAhead_5 := dk_seg dksX3_goesAhead_4 24 rfl rfl
theorem dksX3_goesAhead_6 : cX3_goesAhead.data.toList.drop 131 = dktX3_goesAhead_6 := dk_seg dksX3_goesAhead_5 24 rfl rfl
theorem dX3_goesAhead_0 : decode cX3_goesAhead 0 = .ok (.aload_n 0, 1) := dk_42 (dk_at dksX3_goesAhead_0 0 rfl rfl)
theorem dX3_goesAhead_1 : decode cX3_goesAhead 1 = .ok (.getfield 17, 3) := dk_180 0 17 (dk_at dksX3_goesAhead_0 1 rfl rfl)
theorem dX3_goesAhead_4 : decode cX3_goesAhead 4 = .ok (.bipush 60, 2) := dk_16 60 (dk_at dksX3_goesAhead_0 4 rfl rfl)
theorem dX3_goesAhead_6 : decode cX3_goesAhead 6 = .ok (.iload_n 1, 1) := dk_27 (dk_at dksX3_goesAhead_0 6 rfl rfl)
theorem dX3_goesAhead_7 : decode cX3_goesAhead 7 = .ok (.imul, 1) := dk_104 (dk_at dksX3_goesAhead_0 7 rfl rfl)
theorem dX3_goesAhead_8 : decode cX3_goesAhead 8 = .ok (.iload_n 3, 1) := dk_29 (dk_at dksX3_goesAhead_0 8 rfl rfl)
theorem dX3_goesAhead_9 : decode cX3_goesAhead 9 = .ok (.iadd, 1) := dk_96 (dk_at dksX3_goesAhead_0 9 rfl rfl)
theorem dX3_goesAhead_10 : decode cX3_goesAhead 10 = .ok (.daload, 1) := dk_49 (dk_at dksX3_goesAhead_0 10 rfl rfl)
theorem dX3_goesAhead_11 : decode cX3_goesAhead 11 = .ok (.invokestatic 173, 3) := dk_184 0 173 (dk_at dksX3_goesAhead_0 11 rfl rfl)
theorem dX3_goesAhead_14 : decode cX3_goesAhead 14 = .ok (.dstore 5, 2) := dk_57 5 (dk_at dksX3_goesAhead_0 14 rfl rfl)
theorem dX3_goesAhead_16 : decode cX3_goesAhead 16 = .ok (.aload_n 0, 1) := dk_42 (dk_at dksX3_goesAhead_0 16 rfl rfl)
theorem dX3_goesAhead_17 : decode cX3_goesAhead 17 = .ok (.getfield 17, 3) := dk_180 0 17 (dk_at dksX3_goesAhead_0 17 rfl rfl)
theorem dX3_goesAhead_20 : decode cX3_goesAhead 20 = .ok (.bipush 60, 2) := dk_16 60 (dk_at dksX3_goesAhead_0 20 rfl rfl)
theorem dX3_goesAhead_22 : decode cX3_goesAhead 22 = .ok (.iload_n 1, 1) := dk_27 (dk_at dksX3_goesAhead_0 22 rfl rfl)
theorem dX3_goesAhead_23 : decode cX3_goesAhead 23 = .ok (.imul, 1) := dk_104 (dk_at dksX3_goesAhead_0 23 rfl rfl)
theorem dX3_goesAhead_24 : decode cX3_goesAhead 24 = .ok (.iload 4, 2) := dk_21 4 (dk_at dksX3_goesAhead_1 0 rfl rfl)
theorem dX3_goesAhead_26 : decode cX3_goesAhead 26 = .ok (.iadd, 1) := dk_96 (dk_at dksX3_goesAhead_1 2 rfl rfl)
theorem dX3_goesAhead_27 : decode cX3_goesAhead 27 = .ok (.daload, 1) := dk_49 (dk_at dksX3_goesAhead_1 3 rfl rfl)
theorem dX3_goesAhead_28 : decode cX3_goesAhead 28 = .ok (.invokestatic 173, 3) := dk_184 0 173 (dk_at dksX3_goesAhead_1 4 rfl rfl)
theorem dX3_goesAhead_31 : decode cX3_goesAhead 31 = .ok (.dstore 7, 2) := dk_57 7 (dk_at dksX3_goesAhead_1 7 rfl rfl)
theorem dX3_goesAhead_33 : decode cX3_goesAhead 33 = .ok (.iload_n 2, 1) := dk_28 (dk_at dksX3_goesAhead_1 9 rfl rfl)
theorem dX3_goesAhead_34 : decode cX3_goesAhead 34 = .ok (.tableswitch 86 2 4 #[26, 40, 54], 26) := by decide +kernel
theorem dX3_goesAhead_60 : decode cX3_goesAhead 60 = .ok (.dload 5, 2) := dk_24 5 (dk_at dksX3_goesAhead_3 0 rfl rfl)
theorem dX3_goesAhead_62 : decode cX3_goesAhead 62 = .ok (.dload 7, 2) := dk_24 7 (dk_at dksX3_goesAhead_3 2 rfl rfl)
theorem dX3_goesAhead_64 : decode cX3_goesAhead 64 = .ok (.dcmp .g, 1) := dk_152 (dk_at dksX3_goesAhead_3 4 rfl rfl)
theorem dX3_goesAhead_65 : decode cX3_goesAhead 65 = .ok (.ifCond .ge 7, 3) := dk_156 0 7 (dk_at dksX3_goesAhead_3 5 rfl rfl)
theorem dX3_goesAhead_68 : decode cX3_goesAhead 68 = .ok (.iconst 1, 1) := dk_4 (dk_at dksX3_goesAhead_3 8 rfl rfl)
theorem dX3_goesAhead_69 : decode cX3_goesAhead 69 = .ok (.goto 4, 3) := dk_167 0 4 (dk_at dksX3_goesAhead_3 9 rfl rfl)
theorem dX3_goesAhead_72 : decode cX3_goesAhead 72 = .ok (.iconst 0, 1) := dk_3 (dk_at dksX3_goesAhead_3 12 rfl rfl)
theorem dX3_goesAhead_73 : decode cX3_goesAhead 73 = .ok (.ireturn, 1) := dk_172 (dk_at dksX3_goesAhead_3 13 rfl rfl)
theorem dX3_goesAhead_74 : decode cX3_goesAhead 74 = .ok (.dload 5, 2) := dk_24 5 (dk_at dksX3_goesAhead_3 14 rfl rfl)
theorem dX3_goesAhead_76 : decode cX3_goesAhead 76 = .ok (.dload 7, 2) := dk_24 7 (dk_at dksX3_goesAhead_3 16 rfl rfl)
theorem dX3_goesAhead_78 : decode cX3_goesAhead 78 = .ok (.dcmp .l, 1) := dk_151 (dk_at dksX3_goesAhead_3 18 rfl rfl)
theorem dX3_goesAhead_79 : decode cX3_goesAhead 79 = .ok (.ifCond .le 7, 3) := dk_158 0 7 (dk_at dksX3_goesAhead_3 19 rfl rfl)
theorem dX3_goesAhead_82 : decode cX3_goesAhead 82 = .ok (.iconst 1, 1) := dk_4 (dk_at dksX3_goesAhead_3 22 rfl rfl)
theorem dX3_goesAhead_83 : decode cX3_goesAhead 83 = .ok (.goto 4, 3) := dk_167 0 4 (dk_at dksX3_goesAhead_4 0 rfl rfl)
theorem dX3_goesAhead_86 : decode cX3_goesAhead 86 = .ok (.iconst 0, 1) := dk_3 (dk_at dksX3_goesAhead_4 3 rfl rfl)
theorem dX3_goesAhead_87 : decode cX3_goesAhead 87 = .ok (.ireturn, 1) := dk_172 (dk_at dksX3_goesAhead_4 4 rfl rfl)
theorem dX3_goesAhead_88 : decode cX3_goesAhead 88 = .ok (.aload_n 0, 1) := dk_42 (dk_at dksX3_goesAhead_4 5 rfl rfl)
theorem dX3_goesAhead_89 : decode cX3_goesAhead 89 = .ok (.getfield 21, 3) := dk_180 0 21 (dk_at dksX3_goesAhead_4 6 rfl rfl)
theorem dX3_goesAhead_92 : decode cX3_goesAhead 92 = .ok (.bipush 60, 2) := dk_16 60 (dk_at dksX3_goesAhead_4 9 rfl rfl)
theorem dX3_goesAhead_94 : decode cX3_goesAhead 94 = .ok (.iload_n 1, 1) := dk_27 (dk_at dksX3_goesAhead_4 11 rfl rfl)
theorem dX3_goesAhead_95 : decode cX3_goesAhead 95 = .ok (.imul, 1) := dk_104 (dk_at dksX3_goesAhead_4 12 rfl rfl)
theorem dX3_goesAhead_96 : decode cX3_goesAhead 96 = .ok (.iload_n 3, 1) := dk_29 (dk_at dksX3_goesAhead_4 13 rfl rfl)
theorem dX3_goesAhead_97 : decode cX3_goesAhead 97 = .ok (.iadd, 1) := dk_96 (dk_at dksX3_goesAhead_4 14 rfl rfl)
theorem dX3_goesAhead_98 : decode cX3_goesAhead 98 = .ok (.iaload, 1) := dk_46 (dk_at dksX3_goesAhead_4 15 rfl rfl)
theorem dX3_goesAhead_99 : decode cX3_goesAhead 99 = .ok (.aload_n 0, 1) := dk_42 (dk_at dksX3_goesAhead_4 16 rfl rfl)
theorem dX3_goesAhead_100 : decode cX3_goesAhead 100 = .ok (.getfield 21, 3) := dk_180 0 21 (dk_at dksX3_goesAhead_4 17 rfl rfl)
theorem dX3_goesAhead_103 : decode cX3_goesAhead 103 = .ok (.bipush 60, 2) := dk_16 60 (dk_at dksX3_goesAhead_4 20 rfl rfl)
theorem dX3_goesAhead_105 : decode cX3_goesAhead 105 = .ok (.iload_n 1, 1) := dk_27 (dk_at dksX3_goesAhead_4 22 rfl rfl)
theorem dX3_goesAhead_106 : decode cX3_goesAhead 106 = .ok (.imul, 1) := dk_104 (dk_at dksX3_goesAhead_4 23 rfl rfl)
theorem dX3_goesAhead_107 : decode cX3_goesAhead 107 = .ok (.iload 4, 2) := dk_21 4 (dk_at dksX3_goesAhead_5 0 rfl rfl)
theorem dX3_goesAhead_109 : decode cX3_goesAhead 109 = .ok (.iadd, 1) := dk_96 (dk_at dksX3_goesAhead_5 2 rfl rfl)
theorem dX3_goesAhead_110 : decode cX3_goesAhead 110 = .ok (.iaload, 1) := dk_46 (dk_at dksX3_goesAhead_5 3 rfl rfl)
theorem dX3_goesAhead_111 : decode cX3_goesAhead 111 = .ok (.if_icmp .ge 7, 3) := dk_162 0 7 (dk_at dksX3_goesAhead_5 4 rfl rfl)
theorem dX3_goesAhead_114 : decode cX3_goesAhead 114 = .ok (.iconst 1, 1) := dk_4 (dk_at dksX3_goesAhead_5 7 rfl rfl)
theorem dX3_goesAhead_115 : decode cX3_goesAhead 115 = .ok (.goto 4, 3) := dk_167 0 4 (dk_at dksX3_goesAhead_5 8 rfl rfl)
theorem dX3_goesAhead_118 : decode cX3_goesAhead 118 = .ok (.iconst 0, 1) := dk_3 (dk_at dksX3_goesAhead_5 11 rfl rfl)
theorem dX3_goesAhead_119 : decode cX3_goesAhead 119 = .ok (.ireturn, 1) := dk_172 (dk_at dksX3_goesAhead_5 12 rfl rfl)
theorem dX3_goesAhead_120 : decode cX3_goesAhead 120 = .ok (.aload_n 0, 1) := dk_42 (dk_at dksX3_goesAhead_5 13 rfl rfl)
theorem dX3_goesAhead_121 : decode cX3_goesAhead 121 = .ok (.getfield 24, 3) := dk_180 0 24 (dk_at dksX3_goesAhead_5 14 rfl rfl)
theorem dX3_goesAhead_124 : decode cX3_goesAhead 124 = .ok (.bipush 60, 2) := dk_16 60 (dk_at dksX3_goesAhead_5 17 rfl rfl)
theorem dX3_goesAhead_126 : decode cX3_goesAhead 126 = .ok (.iload_n 1, 1) := dk_27 (dk_at dksX3_goesAhead_5 19 rfl rfl)
theorem dX3_goesAhead_127 : decode cX3_goesAhead 127 = .ok (.imul, 1) := dk_104 (dk_at dksX3_goesAhead_5 20 rfl rfl)
theorem dX3_goesAhead_128 : decode cX3_goesAhead 128 = .ok (.iload_n 3, 1) := dk_29 (dk_at dksX3_goesAhead_5 21 rfl rfl)
theorem dX3_goesAhead_129 : decode cX3_goesAhead 129 = .ok (.iadd, 1) := dk_96 (dk_at dksX3_goesAhead_5 22 rfl rfl)
theorem dX3_goesAhead_130 : decode cX3_goesAhead 130 = .ok (.iaload, 1) := dk_46 (dk_at dksX3_goesAhead_5 23 rfl rfl)
theorem dX3_goesAhead_131 : decode cX3_goesAhead 131 = .ok (.aload_n 0, 1) := dk_42 (dk_at dksX3_goesAhead_6 0 rfl rfl)
theorem dX3_goesAhead_132 : decode cX3_goesAhead 132 = .ok (.getfield 24, 3) := dk_180 0 24 (dk_at dksX3_goesAhead_6 1 rfl rfl)
theorem dX3_goesAhead_135 : decode cX3_goesAhead 135 = .ok (.bipush 60, 2) := dk_16 60 (dk_at dksX3_goesAhead_6 4 rfl rfl)
theorem dX3_goesAhead_137 : decode cX3_goesAhead 137 = .ok (.iload_n 1, 1) := dk_27 (dk_at dksX3_goesAhead_6 6 rfl rfl)
theorem dX3_goesAhead_138 : decode cX3_goesAhead 138 = .ok (.imul, 1) := dk_104 (dk_at dksX3_goesAhead_6 7 rfl rfl)
theorem dX3_goesAhead_139 : decode cX3_goesAhead 139 = .ok (.iload 4, 2) := dk_21 4 (dk_at dksX3_goesAhead_6 8 rfl rfl)
theorem dX3_goesAhead_141 : decode cX3_goesAhead 141 = .ok (.iadd, 1) := dk_96 (dk_at dksX3_goesAhead_6 10 rfl rfl)
theorem dX3_goesAhead_142 : decode cX3_goesAhead 142 = .ok (.iaload, 1) := dk_46 (dk_at dksX3_goesAhead_6 11 rfl rfl)
theorem dX3_goesAhead_143 : decode cX3_goesAhead 143 = .ok (.if_icmp .ge 7, 3) := dk_162 0 7 (dk_at dksX3_goesAhead_6 12 rfl rfl)
theorem dX3_goesAhead_146 : decode cX3_goesAhead 146 = .ok (.iconst 1, 1) := dk_4 (dk_at dksX3_goesAhead_6 15 rfl rfl)
theorem dX3_goesAhead_147 : decode cX3_goesAhead 147 = .ok (.goto 4, 3) := dk_167 0 4 (dk_at dksX3_goesAhead_6 16 rfl rfl)
theorem dX3_goesAhead_150 : decode cX3_goesAhead 150 = .ok (.iconst 0, 1) := dk_3 (dk_at dksX3_goesAhead_6 19 rfl rfl)
theorem dX3_goesAhead_151 : decode cX3_goesAhead 151 = .ok (.ireturn, 1) := dk_172 (dk_at dksX3_goesAhead_6 20 rfl rfl)
abbrev cX3_total : ByteArray := prog_27_method_67_code
def yX3_total : MethodName := ⟨RX3, "total", "(I)J"⟩
def dkwX3_total_1 : List UInt8 := [51, 42, 180, 0, 39, 27, 49, 184, 0, 216, 173]
abbrev dktX3_total_1 : List UInt8 := dkwX3_total_1 ++ []
def dkwX3_total_0 : List UInt8 := [42, 3, 181, 0, 94, 42, 27, 182, 1, 107, 153, 0, 9, 20, 1, 111, 167, 0, 18, 42, 180, 0, 33, 27]
abbrev dktX3_total_0 : List UInt8 := dkwX3_total_0 ++ dktX3_total_1
theorem dksX3_total_0 : cX3_total.data.toList.drop 0 = dktX3_total_0 := by decide +kernel
theorem dksX3_total_1 : cX3_total.data.toList.drop 24 = dktX3_total_1 := dk_seg dksX3_total_0 24 rfl rfl
theorem dX3_total_0 : decode cX3_total 0 = .ok (.aload_n 0, 1) := dk_42 (dk_at dksX3_total_0 0 rfl rfl)
theorem dX3_total_1 : decode cX3_total 1 = .ok (.iconst 0, 1) := dk_3 (dk_at dksX3_total_0 1 rfl rfl)
theorem dX3_total_2 : decode cX3_total 2 = .ok (.putfield 94, 3) := dk_181 0 94 (dk_at dksX3_total_0 2 rfl rfl)
theorem dX3_total_5 : decode cX3_total 5 = .ok (.aload_n 0, 1) := dk_42 (dk_at dksX3_total_0 5 rfl rfl)
theorem dX3_total_6 : decode cX3_total 6 = .ok (.iload_n 1, 1) := dk_27 (dk_at dksX3_total_0 6 rfl rfl)
theorem dX3_total_7 : decode cX3_total 7 = .ok (.invokevirtual 363, 3) := dk_182 1 107 (dk_at dksX3_total_0 7 rfl rfl)
theorem dX3_total_10 : decode cX3_total 10 = .ok (.ifCond .eq 9, 3) := dk_153 0 9 (dk_at dksX3_total_0 10 rfl rfl)
theorem dX3_total_13 : decode cX3_total 13 = .ok (.ldc2_w 367, 3) := dk_20 1 111 (dk_at dksX3_total_0 13 rfl rfl)
theorem dX3_total_16 : decode cX3_total 16 = .ok (.goto 18, 3) := dk_167 0 18 (dk_at dksX3_total_0 16 rfl rfl)
theorem dX3_total_19 : decode cX3_total 19 = .ok (.aload_n 0, 1) := dk_42 (dk_at dksX3_total_0 19 rfl rfl)
theorem dX3_total_20 : decode cX3_total 20 = .ok (.getfield 33, 3) := dk_180 0 33 (dk_at dksX3_total_0 20 rfl rfl)
theorem dX3_total_23 : decode cX3_total 23 = .ok (.iload_n 1, 1) := dk_27 (dk_at dksX3_total_0 23 rfl rfl)
theorem dX3_total_24 : decode cX3_total 24 = .ok (.baload, 1) := dk_51 (dk_at dksX3_total_1 0 rfl rfl)
theorem dX3_total_25 : decode cX3_total 25 = .ok (.aload_n 0, 1) := dk_42 (dk_at dksX3_total_1 1 rfl rfl)
theorem dX3_total_26 : decode cX3_total 26 = .ok (.getfield 39, 3) := dk_180 0 39 (dk_at dksX3_total_1 2 rfl rfl)
theorem dX3_total_29 : decode cX3_total 29 = .ok (.iload_n 1, 1) := dk_27 (dk_at dksX3_total_1 5 rfl rfl)
theorem dX3_total_30 : decode cX3_total 30 = .ok (.daload, 1) := dk_49 (dk_at dksX3_total_1 6 rfl rfl)
theorem dX3_total_31 : decode cX3_total 31 = .ok (.invokestatic 216, 3) := dk_184 0 216 (dk_at dksX3_total_1 7 rfl rfl)
theorem dX3_total_34 : decode cX3_total 34 = .ok (.lreturn, 1) := dk_173 (dk_at dksX3_total_1 10 rfl rfl)
abbrev cX3_noRun : ByteArray := prog_27_method_65_code
def yX3_noRun : MethodName := ⟨RX3, "noRun", "(I)Z"⟩
def dkwX3_noRun_0 : List UInt8 := [27, 133, 9, 42, 180, 1, 100, 4, 100, 133, 184, 0, 99, 154, 0, 7, 4, 167, 0, 4, 3, 172]
abbrev dktX3_noRun_0 : List UInt8 := dkwX3_noRun_0 ++ []
theorem dksX3_noRun_0 : cX3_noRun.data.toList.drop 0 = dktX3_noRun_0 := by decide +kernel
theorem dX3_noRun_0 : decode cX3_noRun 0 = .ok (.iload_n 1, 1) := dk_27 (dk_at dksX3_noRun_0 0 rfl rfl)
theorem dX3_noRun_1 : decode cX3_noRun 1 = .ok (.i2l, 1) := dk_133 (dk_at dksX3_noRun_0 1 rfl rfl)
theorem dX3_noRun_2 : decode cX3_noRun 2 = .ok (.lconst 0, 1) := dk_9 (dk_at dksX3_noRun_0 2 rfl rfl)
theorem dX3_noRun_3 : decode cX3_noRun 3 = .ok (.aload_n 0, 1) := dk_42 (dk_at dksX3_noRun_0 3 rfl rfl)
theorem dX3_noRun_4 : decode cX3_noRun 4 = .ok (.getfield 356, 3) := dk_180 1 100 (dk_at dksX3_noRun_0 4 rfl rfl)
theorem dX3_noRun_7 : decode cX3_noRun 7 = .ok (.iconst 1, 1) := dk_4 (dk_at dksX3_noRun_0 7 rfl rfl)
theorem dX3_noRun_8 : decode cX3_noRun 8 = .ok (.isub, 1) := dk_100 (dk_at dksX3_noRun_0 8 rfl rfl)
theorem dX3_noRun_9 : decode cX3_noRun 9 = .ok (.i2l, 1) := dk_133 (dk_at dksX3_noRun_0 9 rfl rfl)
theorem dX3_noRun_10 : decode cX3_noRun 10 = .ok (.invokestatic 99, 3) := dk_184 0 99 (dk_at dksX3_noRun_0 10 rfl rfl)
theorem dX3_noRun_13 : decode cX3_noRun 13 = .ok (.ifCond .ne 7, 3) := dk_154 0 7 (dk_at dksX3_noRun_0 13 rfl rfl)
theorem dX3_noRun_16 : decode cX3_noRun 16 = .ok (.iconst 1, 1) := dk_4 (dk_at dksX3_noRun_0 16 rfl rfl)
theorem dX3_noRun_17 : decode cX3_noRun 17 = .ok (.goto 4, 3) := dk_167 0 4 (dk_at dksX3_noRun_0 17 rfl rfl)
theorem dX3_noRun_20 : decode cX3_noRun 20 = .ok (.iconst 0, 1) := dk_3 (dk_at dksX3_noRun_0 20 rfl rfl)
theorem dX3_noRun_21 : decode cX3_noRun 21 = .ok (.ireturn, 1) := dk_172 (dk_at dksX3_noRun_0 21 rfl rfl)
abbrev cX3_steps : ByteArray := prog_27_method_68_code
def yX3_steps : MethodName := ⟨RX3, "steps", "(I)I"⟩
def dkwX3_steps_1 : List UInt8 := [172]
abbrev dktX3_steps_1 : List UInt8 := dkwX3_steps_1 ++ []
def dkwX3_steps_0 : List UInt8 := [42, 3, 181, 0, 94, 42, 27, 182, 1, 107, 153, 0, 8, 16, 155, 167, 0, 9, 42, 180, 0, 42, 27, 46]
abbrev dktX3_steps_0 : List UInt8 := dkwX3_steps_0 ++ dktX3_steps_1
theorem dksX3_steps_0 : cX3_steps.data.toList.drop 0 = dktX3_steps_0 := by decide +kernel
theorem dksX3_steps_1 : cX3_steps.data.toList.drop 24 = dktX3_steps_1 := dk_seg dksX3_steps_0 24 rfl rfl
theorem dX3_steps_0 : decode cX3_steps 0 = .ok (.aload_n 0, 1) := dk_42 (dk_at dksX3_steps_0 0 rfl rfl)
theorem dX3_steps_1 : decode cX3_steps 1 = .ok (.iconst 0, 1) := dk_3 (dk_at dksX3_steps_0 1 rfl rfl)
theorem dX3_steps_2 : decode cX3_steps 2 = .ok (.putfield 94, 3) := dk_181 0 94 (dk_at dksX3_steps_0 2 rfl rfl)
theorem dX3_steps_5 : decode cX3_steps 5 = .ok (.aload_n 0, 1) := dk_42 (dk_at dksX3_steps_0 5 rfl rfl)
theorem dX3_steps_6 : decode cX3_steps 6 = .ok (.iload_n 1, 1) := dk_27 (dk_at dksX3_steps_0 6 rfl rfl)
theorem dX3_steps_7 : decode cX3_steps 7 = .ok (.invokevirtual 363, 3) := dk_182 1 107 (dk_at dksX3_steps_0 7 rfl rfl)
theorem dX3_steps_10 : decode cX3_steps 10 = .ok (.ifCond .eq 8, 3) := dk_153 0 8 (dk_at dksX3_steps_0 10 rfl rfl)
theorem dX3_steps_13 : decode cX3_steps 13 = .ok (.bipush (-101), 2) := dk_16 155 (dk_at dksX3_steps_0 13 rfl rfl)
theorem dX3_steps_15 : decode cX3_steps 15 = .ok (.goto 9, 3) := dk_167 0 9 (dk_at dksX3_steps_0 15 rfl rfl)
theorem dX3_steps_18 : decode cX3_steps 18 = .ok (.aload_n 0, 1) := dk_42 (dk_at dksX3_steps_0 18 rfl rfl)
theorem dX3_steps_19 : decode cX3_steps 19 = .ok (.getfield 42, 3) := dk_180 0 42 (dk_at dksX3_steps_0 19 rfl rfl)
theorem dX3_steps_22 : decode cX3_steps 22 = .ok (.iload_n 1, 1) := dk_27 (dk_at dksX3_steps_0 22 rfl rfl)
theorem dX3_steps_23 : decode cX3_steps 23 = .ok (.iaload, 1) := dk_46 (dk_at dksX3_steps_0 23 rfl rfl)
theorem dX3_steps_24 : decode cX3_steps 24 = .ok (.ireturn, 1) := dk_172 (dk_at dksX3_steps_1 0 rfl rfl)
abbrev cX3_step : ByteArray := prog_27_method_70_code
def yX3_step : MethodName := ⟨RX3, "step", "(III)J"⟩
def dkwX3_step_5 : List UInt8 := [160, 0, 8, 24, 5, 167, 0, 9, 42, 3, 4, 182, 1, 122, 184, 0, 113, 173]
abbrev dktX3_step_5 : List UInt8 := dkwX3_step_5 ++ []
def dkwX3_step_4 : List UInt8 := [28, 182, 1, 118, 42, 3, 4, 182, 1, 122, 57, 5, 42, 3, 24, 5, 119, 182, 0, 158, 29, 6]
abbrev dktX3_step_4 : List UInt8 := dkwX3_step_4 ++ dktX3_step_5
def dkwX3_step_3 : List UInt8 := [42, 180, 0, 48, 21, 4, 49, 167, 0, 10, 42, 180, 0, 51, 21, 4, 49, 184, 0, 216, 173, 42, 3, 27]
abbrev dktX3_step_3 : List UInt8 := dkwX3_step_3 ++ dktX3_step_4
def dkwX3_step_2 : List UInt8 := [180, 0, 33, 27, 51, 29, 154, 0, 13, 42, 180, 0, 45, 21, 4, 49, 167, 0, 25, 29, 4, 160, 0, 13]
abbrev dktX3_step_2 : List UInt8 := dkwX3_step_2 ++ dktX3_step_3
def dkwX3_step_1 : List UInt8 := [184, 0, 99, 154, 0, 7, 20, 1, 21, 173, 16, 60, 27, 104, 28, 96, 54, 4, 29, 6, 162, 0, 49, 42]
abbrev dktX3_step_1 : List UInt8 := dkwX3_step_1 ++ dktX3_step_2
def dkwX3_step_0 : List UInt8 := [42, 3, 181, 0, 94, 42, 27, 28, 182, 1, 113, 153, 0, 7, 20, 1, 111, 173, 29, 133, 9, 20, 1, 116]
abbrev dktX3_step_0 : List UInt8 := dkwX3_step_0 ++ dktX3_step_1
theorem dksX3_step_0 : cX3_step.data.toList.drop 0 = dktX3_step_0 := by decide +kernel
theorem dksX3_step_1 : cX3_step.data.toList.drop 24 = dktX3_step_1 := dk_seg dksX3_step_0 24 rfl rfl
theorem dksX3_step_2 : cX3_step.data.toList.drop 48 = dktX3_step_2 := dk_seg dksX3_step_1 24 rfl rfl
theorem dksX3_step_3 : cX3_step.data.toList.drop 72 = dktX3_step_3 := dk_seg dksX3_step_2 24 rfl rfl
theorem dksX3_step_4 : cX3_step.data.toList.drop 96 = dktX3_step_4 := dk_seg dksX3_step_3 24 rfl rfl
theorem dksX3_step_5 : cX3_step.data.toList.drop 118 = dktX3_step_5 := dk_seg dksX3_step_4 22 rfl rfl
theorem dX3_step_0 : decode cX3_step 0 = .ok (.aload_n 0, 1) := dk_42 (dk_at dksX3_step_0 0 rfl rfl)
theorem dX3_step_1 : decode cX3_step 1 = .ok (.iconst 0, 1) := dk_3 (dk_at dksX3_step_0 1 rfl rfl)
theorem dX3_step_2 : decode cX3_step 2 = .ok (.putfield 94, 3) := dk_181 0 94 (dk_at dksX3_step_0 2 rfl rfl)
theorem dX3_step_5 : decode cX3_step 5 = .ok (.aload_n 0, 1) := dk_42 (dk_at dksX3_step_0 5 rfl rfl)
theorem dX3_step_6 : decode cX3_step 6 = .ok (.iload_n 1, 1) := dk_27 (dk_at dksX3_step_0 6 rfl rfl)
theorem dX3_step_7 : decode cX3_step 7 = .ok (.iload_n 2, 1) := dk_28 (dk_at dksX3_step_0 7 rfl rfl)
theorem dX3_step_8 : decode cX3_step 8 = .ok (.invokevirtual 369, 3) := dk_182 1 113 (dk_at dksX3_step_0 8 rfl rfl)
theorem dX3_step_11 : decode cX3_step 11 = .ok (.ifCond .eq 7, 3) := dk_153 0 7 (dk_at dksX3_step_0 11 rfl rfl)
theorem dX3_step_14 : decode cX3_step 14 = .ok (.ldc2_w 367, 3) := dk_20 1 111 (dk_at dksX3_step_0 14 rfl rfl)
theorem dX3_step_17 : decode cX3_step 17 = .ok (.lreturn, 1) := dk_173 (dk_at dksX3_step_0 17 rfl rfl)
theorem dX3_step_18 : decode cX3_step 18 = .ok (.iload_n 3, 1) := dk_29 (dk_at dksX3_step_0 18 rfl rfl)
theorem dX3_step_19 : decode cX3_step 19 = .ok (.i2l, 1) := dk_133 (dk_at dksX3_step_0 19 rfl rfl)
theorem dX3_step_20 : decode cX3_step 20 = .ok (.lconst 0, 1) := dk_9 (dk_at dksX3_step_0 20 rfl rfl)
theorem dX3_step_21 : decode cX3_step 21 = .ok (.ldc2_w 372, 3) := dk_20 1 116 (dk_at dksX3_step_0 21 rfl rfl)
theorem dX3_step_24 : decode cX3_step 24 = .ok (.invokestatic 99, 3) := dk_184 0 99 (dk_at dksX3_step_1 0 rfl rfl)
theorem dX3_step_27 : decode cX3_step 27 = .ok (.ifCond .ne 7, 3) := dk_154 0 7 (dk_at dksX3_step_1 3 rfl rfl)
theorem dX3_step_30 : decode cX3_step 30 = .ok (.ldc2_w 277, 3) := dk_20 1 21 (dk_at dksX3_step_1 6 rfl rfl)
theorem dX3_step_33 : decode cX3_step 33 = .ok (.lreturn, 1) := dk_173 (dk_at dksX3_step_1 9 rfl rfl)
theorem dX3_step_34 : decode cX3_step 34 = .ok (.bipush 60, 2) := dk_16 60 (dk_at dksX3_step_1 10 rfl rfl)
theorem dX3_step_36 : decode cX3_step 36 = .ok (.iload_n 1, 1) := dk_27 (dk_at dksX3_step_1 12 rfl rfl)
theorem dX3_step_37 : decode cX3_step 37 = .ok (.imul, 1) := dk_104 (dk_at dksX3_step_1 13 rfl rfl)
theorem dX3_step_38 : decode cX3_step 38 = .ok (.iload_n 2, 1) := dk_28 (dk_at dksX3_step_1 14 rfl rfl)
theorem dX3_step_39 : decode cX3_step 39 = .ok (.iadd, 1) := dk_96 (dk_at dksX3_step_1 15 rfl rfl)
theorem dX3_step_40 : decode cX3_step 40 = .ok (.istore 4, 2) := dk_54 4 (dk_at dksX3_step_1 16 rfl rfl)
theorem dX3_step_42 : decode cX3_step 42 = .ok (.iload_n 3, 1) := dk_29 (dk_at dksX3_step_1 18 rfl rfl)
theorem dX3_step_43 : decode cX3_step 43 = .ok (.iconst 3, 1) := dk_6 (dk_at dksX3_step_1 19 rfl rfl)
theorem dX3_step_44 : decode cX3_step 44 = .ok (.if_icmp .ge 49, 3) := dk_162 0 49 (dk_at dksX3_step_1 20 rfl rfl)
theorem dX3_step_47 : decode cX3_step 47 = .ok (.aload_n 0, 1) := dk_42 (dk_at dksX3_step_1 23 rfl rfl)
theorem dX3_step_48 : decode cX3_step 48 = .ok (.getfield 33, 3) := dk_180 0 33 (dk_at dksX3_step_2 0 rfl rfl)
theorem dX3_step_51 : decode cX3_step 51 = .ok (.iload_n 1, 1) := dk_27 (dk_at dksX3_step_2 3 rfl rfl)
theorem dX3_step_52 : decode cX3_step 52 = .ok (.baload, 1) := dk_51 (dk_at dksX3_step_2 4 rfl rfl)
theorem dX3_step_53 : decode cX3_step 53 = .ok (.iload_n 3, 1) := dk_29 (dk_at dksX3_step_2 5 rfl rfl)
theorem dX3_step_54 : decode cX3_step 54 = .ok (.ifCond .ne 13, 3) := dk_154 0 13 (dk_at dksX3_step_2 6 rfl rfl)
theorem dX3_step_57 : decode cX3_step 57 = .ok (.aload_n 0, 1) := dk_42 (dk_at dksX3_step_2 9 rfl rfl)
theorem dX3_step_58 : decode cX3_step 58 = .ok (.getfield 45, 3) := dk_180 0 45 (dk_at dksX3_step_2 10 rfl rfl)
theorem dX3_step_61 : decode cX3_step 61 = .ok (.iload 4, 2) := dk_21 4 (dk_at dksX3_step_2 13 rfl rfl)
theorem dX3_step_63 : decode cX3_step 63 = .ok (.daload, 1) := dk_49 (dk_at dksX3_step_2 15 rfl rfl)
theorem dX3_step_64 : decode cX3_step 64 = .ok (.goto 25, 3) := dk_167 0 25 (dk_at dksX3_step_2 16 rfl rfl)
theorem dX3_step_67 : decode cX3_step 67 = .ok (.iload_n 3, 1) := dk_29 (dk_at dksX3_step_2 19 rfl rfl)
theorem dX3_step_68 : decode cX3_step 68 = .ok (.iconst 1, 1) := dk_4 (dk_at dksX3_step_2 20 rfl rfl)
theorem dX3_step_69 : decode cX3_step 69 = .ok (.if_icmp .ne 13, 3) := dk_160 0 13 (dk_at dksX3_step_2 21 rfl rfl)
theorem dX3_step_72 : decode cX3_step 72 = .ok (.aload_n 0, 1) := dk_42 (dk_at dksX3_step_3 0 rfl rfl)
theorem dX3_step_73 : decode cX3_step 73 = .ok (.getfield 48, 3) := dk_180 0 48 (dk_at dksX3_step_3 1 rfl rfl)
theorem dX3_step_76 : decode cX3_step 76 = .ok (.iload 4, 2) := dk_21 4 (dk_at dksX3_step_3 4 rfl rfl)
theorem dX3_step_78 : decode cX3_step 78 = .ok (.daload, 1) := dk_49 (dk_at dksX3_step_3 6 rfl rfl)
theorem dX3_step_79 : decode cX3_step 79 = .ok (.goto 10, 3) := dk_167 0 10 (dk_at dksX3_step_3 7 rfl rfl)
theorem dX3_step_82 : decode cX3_step 82 = .ok (.aload_n 0, 1) := dk_42 (dk_at dksX3_step_3 10 rfl rfl)
theorem dX3_step_83 : decode cX3_step 83 = .ok (.getfield 51, 3) := dk_180 0 51 (dk_at dksX3_step_3 11 rfl rfl)
theorem dX3_step_86 : decode cX3_step 86 = .ok (.iload 4, 2) := dk_21 4 (dk_at dksX3_step_3 14 rfl rfl)
theorem dX3_step_88 : decode cX3_step 88 = .ok (.daload, 1) := dk_49 (dk_at dksX3_step_3 16 rfl rfl)
theorem dX3_step_89 : decode cX3_step 89 = .ok (.invokestatic 216, 3) := dk_184 0 216 (dk_at dksX3_step_3 17 rfl rfl)
theorem dX3_step_92 : decode cX3_step 92 = .ok (.lreturn, 1) := dk_173 (dk_at dksX3_step_3 20 rfl rfl)
theorem dX3_step_93 : decode cX3_step 93 = .ok (.aload_n 0, 1) := dk_42 (dk_at dksX3_step_3 21 rfl rfl)
theorem dX3_step_94 : decode cX3_step 94 = .ok (.iconst 0, 1) := dk_3 (dk_at dksX3_step_3 22 rfl rfl)
theorem dX3_step_95 : decode cX3_step 95 = .ok (.iload_n 1, 1) := dk_27 (dk_at dksX3_step_3 23 rfl rfl)
theorem dX3_step_96 : decode cX3_step 96 = .ok (.iload_n 2, 1) := dk_28 (dk_at dksX3_step_4 0 rfl rfl)
theorem dX3_step_97 : decode cX3_step 97 = .ok (.invokevirtual 374, 3) := dk_182 1 118 (dk_at dksX3_step_4 1 rfl rfl)
theorem dX3_step_100 : decode cX3_step 100 = .ok (.aload_n 0, 1) := dk_42 (dk_at dksX3_step_4 4 rfl rfl)
theorem dX3_step_101 : decode cX3_step 101 = .ok (.iconst 0, 1) := dk_3 (dk_at dksX3_step_4 5 rfl rfl)
theorem dX3_step_102 : decode cX3_step 102 = .ok (.iconst 1, 1) := dk_4 (dk_at dksX3_step_4 6 rfl rfl)
theorem dX3_step_103 : decode cX3_step 103 = .ok (.invokevirtual 378, 3) := dk_182 1 122 (dk_at dksX3_step_4 7 rfl rfl)
theorem dX3_step_106 : decode cX3_step 106 = .ok (.dstore 5, 2) := dk_57 5 (dk_at dksX3_step_4 10 rfl rfl)
theorem dX3_step_108 : decode cX3_step 108 = .ok (.aload_n 0, 1) := dk_42 (dk_at dksX3_step_4 12 rfl rfl)
theorem dX3_step_109 : decode cX3_step 109 = .ok (.iconst 0, 1) := dk_3 (dk_at dksX3_step_4 13 rfl rfl)
theorem dX3_step_110 : decode cX3_step 110 = .ok (.dload 5, 2) := dk_24 5 (dk_at dksX3_step_4 14 rfl rfl)
theorem dX3_step_112 : decode cX3_step 112 = .ok (.dneg, 1) := dk_119 (dk_at dksX3_step_4 16 rfl rfl)
theorem dX3_step_113 : decode cX3_step 113 = .ok (.invokevirtual 158, 3) := dk_182 0 158 (dk_at dksX3_step_4 17 rfl rfl)
theorem dX3_step_116 : decode cX3_step 116 = .ok (.iload_n 3, 1) := dk_29 (dk_at dksX3_step_4 20 rfl rfl)
theorem dX3_step_117 : decode cX3_step 117 = .ok (.iconst 3, 1) := dk_6 (dk_at dksX3_step_4 21 rfl rfl)
theorem dX3_step_118 : decode cX3_step 118 = .ok (.if_icmp .ne 8, 3) := dk_160 0 8 (dk_at dksX3_step_5 0 rfl rfl)
theorem dX3_step_121 : decode cX3_step 121 = .ok (.dload 5, 2) := dk_24 5 (dk_at dksX3_step_5 3 rfl rfl)
theorem dX3_step_123 : decode cX3_step 123 = .ok (.goto 9, 3) := dk_167 0 9 (dk_at dksX3_step_5 5 rfl rfl)
theorem dX3_step_126 : decode cX3_step 126 = .ok (.aload_n 0, 1) := dk_42 (dk_at dksX3_step_5 8 rfl rfl)
theorem dX3_step_127 : decode cX3_step 127 = .ok (.iconst 0, 1) := dk_3 (dk_at dksX3_step_5 9 rfl rfl)
theorem dX3_step_128 : decode cX3_step 128 = .ok (.iconst 1, 1) := dk_4 (dk_at dksX3_step_5 10 rfl rfl)
theorem dX3_step_129 : decode cX3_step 129 = .ok (.invokevirtual 378, 3) := dk_182 1 122 (dk_at dksX3_step_5 11 rfl rfl)
theorem dX3_step_132 : decode cX3_step 132 = .ok (.invokestatic 113, 3) := dk_184 0 113 (dk_at dksX3_step_5 14 rfl rfl)
theorem dX3_step_135 : decode cX3_step 135 = .ok (.lreturn, 1) := dk_173 (dk_at dksX3_step_5 17 rfl rfl)
abbrev cX3_noStep : ByteArray := prog_27_method_66_code
def yX3_noStep : MethodName := ⟨RX3, "noStep", "(II)Z"⟩
def dkwX3_noStep_1 : List UInt8 := [154, 0, 7, 4, 167, 0, 4, 3, 172]
abbrev dktX3_noStep_1 : List UInt8 := dkwX3_noStep_1 ++ []
def dkwX3_noStep_0 : List UInt8 := [42, 27, 182, 1, 107, 154, 0, 21, 28, 133, 9, 42, 180, 0, 42, 27, 46, 4, 100, 133, 184, 0, 99]
abbrev dktX3_noStep_0 : List UInt8 := dkwX3_noStep_0 ++ dktX3_noStep_1
theorem dksX3_noStep_0 : cX3_noStep.data.toList.drop 0 = dktX3_noStep_0 := by decide +kernel
theorem dksX3_noStep_1 : cX3_noStep.data.toList.drop 23 = dktX3_noStep_1 := dk_seg dksX3_noStep_0 23 rfl rfl
theorem dX3_noStep_0 : decode cX3_noStep 0 = .ok (.aload_n 0, 1) := dk_42 (dk_at dksX3_noStep_0 0 rfl rfl)
theorem dX3_noStep_1 : decode cX3_noStep 1 = .ok (.iload_n 1, 1) := dk_27 (dk_at dksX3_noStep_0 1 rfl rfl)
theorem dX3_noStep_2 : decode cX3_noStep 2 = .ok (.invokevirtual 363, 3) := dk_182 1 107 (dk_at dksX3_noStep_0 2 rfl rfl)
theorem dX3_noStep_5 : decode cX3_noStep 5 = .ok (.ifCond .ne 21, 3) := dk_154 0 21 (dk_at dksX3_noStep_0 5 rfl rfl)
theorem dX3_noStep_8 : decode cX3_noStep 8 = .ok (.iload_n 2, 1) := dk_28 (dk_at dksX3_noStep_0 8 rfl rfl)
theorem dX3_noStep_9 : decode cX3_noStep 9 = .ok (.i2l, 1) := dk_133 (dk_at dksX3_noStep_0 9 rfl rfl)
theorem dX3_noStep_10 : decode cX3_noStep 10 = .ok (.lconst 0, 1) := dk_9 (dk_at dksX3_noStep_0 10 rfl rfl)
theorem dX3_noStep_11 : decode cX3_noStep 11 = .ok (.aload_n 0, 1) := dk_42 (dk_at dksX3_noStep_0 11 rfl rfl)
theorem dX3_noStep_12 : decode cX3_noStep 12 = .ok (.getfield 42, 3) := dk_180 0 42 (dk_at dksX3_noStep_0 12 rfl rfl)
theorem dX3_noStep_15 : decode cX3_noStep 15 = .ok (.iload_n 1, 1) := dk_27 (dk_at dksX3_noStep_0 15 rfl rfl)
theorem dX3_noStep_16 : decode cX3_noStep 16 = .ok (.iaload, 1) := dk_46 (dk_at dksX3_noStep_0 16 rfl rfl)
theorem dX3_noStep_17 : decode cX3_noStep 17 = .ok (.iconst 1, 1) := dk_4 (dk_at dksX3_noStep_0 17 rfl rfl)
theorem dX3_noStep_18 : decode cX3_noStep 18 = .ok (.isub, 1) := dk_100 (dk_at dksX3_noStep_0 18 rfl rfl)
theorem dX3_noStep_19 : decode cX3_noStep 19 = .ok (.i2l, 1) := dk_133 (dk_at dksX3_noStep_0 19 rfl rfl)
theorem dX3_noStep_20 : decode cX3_noStep 20 = .ok (.invokestatic 99, 3) := dk_184 0 99 (dk_at dksX3_noStep_0 20 rfl rfl)
theorem dX3_noStep_23 : decode cX3_noStep 23 = .ok (.ifCond .ne 7, 3) := dk_154 0 7 (dk_at dksX3_noStep_1 0 rfl rfl)
theorem dX3_noStep_26 : decode cX3_noStep 26 = .ok (.iconst 1, 1) := dk_4 (dk_at dksX3_noStep_1 3 rfl rfl)
theorem dX3_noStep_27 : decode cX3_noStep 27 = .ok (.goto 4, 3) := dk_167 0 4 (dk_at dksX3_noStep_1 4 rfl rfl)
theorem dX3_noStep_30 : decode cX3_noStep 30 = .ok (.iconst 0, 1) := dk_3 (dk_at dksX3_noStep_1 7 rfl rfl)
theorem dX3_noStep_31 : decode cX3_noStep 31 = .ok (.ireturn, 1) := dk_172 (dk_at dksX3_noStep_1 8 rfl rfl)
abbrev cX3_lossOf : ByteArray := prog_27_method_69_code
def yX3_lossOf : MethodName := ⟨RX3, "lossOf", "(III)V"⟩
def dkwX3_lossOf_2 : List UInt8 := [96, 49, 119, 182, 0, 158, 177]
abbrev dktX3_lossOf_2 : List UInt8 := dkwX3_lossOf_2 ++ []
def dkwX3_lossOf_1 : List UInt8 := [180, 0, 48, 16, 60, 28, 104, 29, 96, 49, 182, 0, 158, 42, 27, 42, 180, 0, 51, 16, 60, 28, 104, 29]
abbrev dktX3_lossOf_1 : List UInt8 := dkwX3_lossOf_1 ++ dktX3_lossOf_2
def dkwX3_lossOf_0 : List UInt8 := [42, 27, 182, 0, 109, 42, 27, 42, 180, 0, 45, 16, 60, 28, 104, 29, 96, 49, 182, 0, 158, 42, 27, 42]
abbrev dktX3_lossOf_0 : List UInt8 := dkwX3_lossOf_0 ++ dktX3_lossOf_1
theorem dksX3_lossOf_0 : cX3_lossOf.data.toList.drop 0 = dktX3_lossOf_0 := by decide +kernel
theorem dksX3_lossOf_1 : cX3_lossOf.data.toList.drop 24 = dktX3_lossOf_1 := dk_seg dksX3_lossOf_0 24 rfl rfl
theorem dksX3_lossOf_2 : cX3_lossOf.data.toList.drop 48 = dktX3_lossOf_2 := dk_seg dksX3_lossOf_1 24 rfl rfl
theorem dX3_lossOf_0 : decode cX3_lossOf 0 = .ok (.aload_n 0, 1) := dk_42 (dk_at dksX3_lossOf_0 0 rfl rfl)
theorem dX3_lossOf_1 : decode cX3_lossOf 1 = .ok (.iload_n 1, 1) := dk_27 (dk_at dksX3_lossOf_0 1 rfl rfl)
theorem dX3_lossOf_2 : decode cX3_lossOf 2 = .ok (.invokevirtual 109, 3) := dk_182 0 109 (dk_at dksX3_lossOf_0 2 rfl rfl)
theorem dX3_lossOf_5 : decode cX3_lossOf 5 = .ok (.aload_n 0, 1) := dk_42 (dk_at dksX3_lossOf_0 5 rfl rfl)
theorem dX3_lossOf_6 : decode cX3_lossOf 6 = .ok (.iload_n 1, 1) := dk_27 (dk_at dksX3_lossOf_0 6 rfl rfl)
theorem dX3_lossOf_7 : decode cX3_lossOf 7 = .ok (.aload_n 0, 1) := dk_42 (dk_at dksX3_lossOf_0 7 rfl rfl)
theorem dX3_lossOf_8 : decode cX3_lossOf 8 = .ok (.getfield 45, 3) := dk_180 0 45 (dk_at dksX3_lossOf_0 8 rfl rfl)
theorem dX3_lossOf_11 : decode cX3_lossOf 11 = .ok (.bipush 60, 2) := dk_16 60 (dk_at dksX3_lossOf_0 11 rfl rfl)
theorem dX3_lossOf_13 : decode cX3_lossOf 13 = .ok (.iload_n 2, 1) := dk_28 (dk_at dksX3_lossOf_0 13 rfl rfl)
theorem dX3_lossOf_14 : decode cX3_lossOf 14 = .ok (.imul, 1) := dk_104 (dk_at dksX3_lossOf_0 14 rfl rfl)
theorem dX3_lossOf_15 : decode cX3_lossOf 15 = .ok (.iload_n 3, 1) := dk_29 (dk_at dksX3_lossOf_0 15 rfl rfl)
theorem dX3_lossOf_16 : decode cX3_lossOf 16 = .ok (.iadd, 1) := dk_96 (dk_at dksX3_lossOf_0 16 rfl rfl)
theorem dX3_lossOf_17 : decode cX3_lossOf 17 = .ok (.daload, 1) := dk_49 (dk_at dksX3_lossOf_0 17 rfl rfl)
theorem dX3_lossOf_18 : decode cX3_lossOf 18 = .ok (.invokevirtual 158, 3) := dk_182 0 158 (dk_at dksX3_lossOf_0 18 rfl rfl)
theorem dX3_lossOf_21 : decode cX3_lossOf 21 = .ok (.aload_n 0, 1) := dk_42 (dk_at dksX3_lossOf_0 21 rfl rfl)
theorem dX3_lossOf_22 : decode cX3_lossOf 22 = .ok (.iload_n 1, 1) := dk_27 (dk_at dksX3_lossOf_0 22 rfl rfl)
theorem dX3_lossOf_23 : decode cX3_lossOf 23 = .ok (.aload_n 0, 1) := dk_42 (dk_at dksX3_lossOf_0 23 rfl rfl)
theorem dX3_lossOf_24 : decode cX3_lossOf 24 = .ok (.getfield 48, 3) := dk_180 0 48 (dk_at dksX3_lossOf_1 0 rfl rfl)
theorem dX3_lossOf_27 : decode cX3_lossOf 27 = .ok (.bipush 60, 2) := dk_16 60 (dk_at dksX3_lossOf_1 3 rfl rfl)
theorem dX3_lossOf_29 : decode cX3_lossOf 29 = .ok (.iload_n 2, 1) := dk_28 (dk_at dksX3_lossOf_1 5 rfl rfl)
theorem dX3_lossOf_30 : decode cX3_lossOf 30 = .ok (.imul, 1) := dk_104 (dk_at dksX3_lossOf_1 6 rfl rfl)
theorem dX3_lossOf_31 : decode cX3_lossOf 31 = .ok (.iload_n 3, 1) := dk_29 (dk_at dksX3_lossOf_1 7 rfl rfl)
theorem dX3_lossOf_32 : decode cX3_lossOf 32 = .ok (.iadd, 1) := dk_96 (dk_at dksX3_lossOf_1 8 rfl rfl)
theorem dX3_lossOf_33 : decode cX3_lossOf 33 = .ok (.daload, 1) := dk_49 (dk_at dksX3_lossOf_1 9 rfl rfl)
theorem dX3_lossOf_34 : decode cX3_lossOf 34 = .ok (.invokevirtual 158, 3) := dk_182 0 158 (dk_at dksX3_lossOf_1 10 rfl rfl)
theorem dX3_lossOf_37 : decode cX3_lossOf 37 = .ok (.aload_n 0, 1) := dk_42 (dk_at dksX3_lossOf_1 13 rfl rfl)
theorem dX3_lossOf_38 : decode cX3_lossOf 38 = .ok (.iload_n 1, 1) := dk_27 (dk_at dksX3_lossOf_1 14 rfl rfl)
theorem dX3_lossOf_39 : decode cX3_lossOf 39 = .ok (.aload_n 0, 1) := dk_42 (dk_at dksX3_lossOf_1 15 rfl rfl)
theorem dX3_lossOf_40 : decode cX3_lossOf 40 = .ok (.getfield 51, 3) := dk_180 0 51 (dk_at dksX3_lossOf_1 16 rfl rfl)
theorem dX3_lossOf_43 : decode cX3_lossOf 43 = .ok (.bipush 60, 2) := dk_16 60 (dk_at dksX3_lossOf_1 19 rfl rfl)
theorem dX3_lossOf_45 : decode cX3_lossOf 45 = .ok (.iload_n 2, 1) := dk_28 (dk_at dksX3_lossOf_1 21 rfl rfl)
theorem dX3_lossOf_46 : decode cX3_lossOf 46 = .ok (.imul, 1) := dk_104 (dk_at dksX3_lossOf_1 22 rfl rfl)
theorem dX3_lossOf_47 : decode cX3_lossOf 47 = .ok (.iload_n 3, 1) := dk_29 (dk_at dksX3_lossOf_1 23 rfl rfl)
theorem dX3_lossOf_48 : decode cX3_lossOf 48 = .ok (.iadd, 1) := dk_96 (dk_at dksX3_lossOf_2 0 rfl rfl)
theorem dX3_lossOf_49 : decode cX3_lossOf 49 = .ok (.daload, 1) := dk_49 (dk_at dksX3_lossOf_2 1 rfl rfl)
theorem dX3_lossOf_50 : decode cX3_lossOf 50 = .ok (.dneg, 1) := dk_119 (dk_at dksX3_lossOf_2 2 rfl rfl)
theorem dX3_lossOf_51 : decode cX3_lossOf 51 = .ok (.invokevirtual 158, 3) := dk_182 0 158 (dk_at dksX3_lossOf_2 3 rfl rfl)
theorem dX3_lossOf_54 : decode cX3_lossOf 54 = .ok (.return_, 1) := dk_177 (dk_at dksX3_lossOf_2 6 rfl rfl)
abbrev cX3_clearBig : ByteArray := prog_27_method_7_code
def yX3_clearBig : MethodName := ⟨RX3, "clearBig", "(I)V"⟩
def dkwX3_clearBig_1 : List UInt8 := [167, 255, 235, 177]
abbrev dktX3_clearBig_1 : List UInt8 := dkwX3_clearBig_1 ++ []
def dkwX3_clearBig_0 : List UInt8 := [3, 61, 28, 16, 44, 162, 0, 21, 42, 180, 0, 79, 16, 44, 27, 104, 28, 96, 3, 79, 132, 2, 1]
abbrev dktX3_clearBig_0 : List UInt8 := dkwX3_clearBig_0 ++ dktX3_clearBig_1
theorem dksX3_clearBig_0 : cX3_clearBig.data.toList.drop 0 = dktX3_clearBig_0 := by decide +kernel
theorem dksX3_clearBig_1 : cX3_clearBig.data.toList.drop 23 = dktX3_clearBig_1 := dk_seg dksX3_clearBig_0 23 rfl rfl
theorem dX3_clearBig_0 : decode cX3_clearBig 0 = .ok (.iconst 0, 1) := dk_3 (dk_at dksX3_clearBig_0 0 rfl rfl)
theorem dX3_clearBig_1 : decode cX3_clearBig 1 = .ok (.istore_n 2, 1) := dk_61 (dk_at dksX3_clearBig_0 1 rfl rfl)
theorem dX3_clearBig_2 : decode cX3_clearBig 2 = .ok (.iload_n 2, 1) := dk_28 (dk_at dksX3_clearBig_0 2 rfl rfl)
theorem dX3_clearBig_3 : decode cX3_clearBig 3 = .ok (.bipush 44, 2) := dk_16 44 (dk_at dksX3_clearBig_0 3 rfl rfl)
theorem dX3_clearBig_5 : decode cX3_clearBig 5 = .ok (.if_icmp .ge 21, 3) := dk_162 0 21 (dk_at dksX3_clearBig_0 5 rfl rfl)
theorem dX3_clearBig_8 : decode cX3_clearBig 8 = .ok (.aload_n 0, 1) := dk_42 (dk_at dksX3_clearBig_0 8 rfl rfl)
theorem dX3_clearBig_9 : decode cX3_clearBig 9 = .ok (.getfield 79, 3) := dk_180 0 79 (dk_at dksX3_clearBig_0 9 rfl rfl)
theorem dX3_clearBig_12 : decode cX3_clearBig 12 = .ok (.bipush 44, 2) := dk_16 44 (dk_at dksX3_clearBig_0 12 rfl rfl)
theorem dX3_clearBig_14 : decode cX3_clearBig 14 = .ok (.iload_n 1, 1) := dk_27 (dk_at dksX3_clearBig_0 14 rfl rfl)
theorem dX3_clearBig_15 : decode cX3_clearBig 15 = .ok (.imul, 1) := dk_104 (dk_at dksX3_clearBig_0 15 rfl rfl)
theorem dX3_clearBig_16 : decode cX3_clearBig 16 = .ok (.iload_n 2, 1) := dk_28 (dk_at dksX3_clearBig_0 16 rfl rfl)
theorem dX3_clearBig_17 : decode cX3_clearBig 17 = .ok (.iadd, 1) := dk_96 (dk_at dksX3_clearBig_0 17 rfl rfl)
theorem dX3_clearBig_18 : decode cX3_clearBig 18 = .ok (.iconst 0, 1) := dk_3 (dk_at dksX3_clearBig_0 18 rfl rfl)
theorem dX3_clearBig_19 : decode cX3_clearBig 19 = .ok (.iastore, 1) := dk_79 (dk_at dksX3_clearBig_0 19 rfl rfl)
theorem dX3_clearBig_20 : decode cX3_clearBig 20 = .ok (.iinc 2 1, 3) := dk_132 2 1 (dk_at dksX3_clearBig_0 20 rfl rfl)
theorem dX3_clearBig_23 : decode cX3_clearBig 23 = .ok (.goto (-21), 3) := dk_167 255 235 (dk_at dksX3_clearBig_1 0 rfl rfl)
theorem dX3_clearBig_26 : decode cX3_clearBig 26 = .ok (.return_, 1) := dk_177 (dk_at dksX3_clearBig_1 3 rfl rfl)
abbrev cX3_addNumber : ByteArray := prog_27_method_15_code
def yX3_addNumber : MethodName := ⟨RX3, "addNumber", "(ID)V"⟩
def dkwX3_addNumber_0 : List UInt8 := [42, 16, 23, 40, 182, 0, 128, 42, 27, 16, 23, 182, 0, 132, 177]
abbrev dktX3_addNumber_0 : List UInt8 := dkwX3_addNumber_0 ++ []
theorem dksX3_addNumber_0 : cX3_addNumber.data.toList.drop 0 = dktX3_addNumber_0 := by decide +kernel
theorem dX3_addNumber_0 : decode cX3_addNumber 0 = .ok (.aload_n 0, 1) := dk_42 (dk_at dksX3_addNumber_0 0 rfl rfl)
theorem dX3_addNumber_1 : decode cX3_addNumber 1 = .ok (.bipush 23, 2) := dk_16 23 (dk_at dksX3_addNumber_0 1 rfl rfl)
theorem dX3_addNumber_3 : decode cX3_addNumber 3 = .ok (.dload_n 2, 1) := dk_40 (dk_at dksX3_addNumber_0 3 rfl rfl)
theorem dX3_addNumber_4 : decode cX3_addNumber 4 = .ok (.invokevirtual 128, 3) := dk_182 0 128 (dk_at dksX3_addNumber_0 4 rfl rfl)
theorem dX3_addNumber_7 : decode cX3_addNumber 7 = .ok (.aload_n 0, 1) := dk_42 (dk_at dksX3_addNumber_0 7 rfl rfl)
theorem dX3_addNumber_8 : decode cX3_addNumber 8 = .ok (.iload_n 1, 1) := dk_27 (dk_at dksX3_addNumber_0 8 rfl rfl)
theorem dX3_addNumber_9 : decode cX3_addNumber 9 = .ok (.bipush 23, 2) := dk_16 23 (dk_at dksX3_addNumber_0 9 rfl rfl)
theorem dX3_addNumber_11 : decode cX3_addNumber 11 = .ok (.invokevirtual 132, 3) := dk_182 0 132 (dk_at dksX3_addNumber_0 11 rfl rfl)
theorem dX3_addNumber_14 : decode cX3_addNumber 14 = .ok (.return_, 1) := dk_177 (dk_at dksX3_addNumber_0 14 rfl rfl)
abbrev cX3_writeBig : ByteArray := prog_27_method_14_code
def yX3_writeBig : MethodName := ⟨RX3, "writeBig", "(ID)V"⟩
def dkwX3_writeBig_7 : List UInt8 := [27, 182, 0, 125, 177]
abbrev dktX3_writeBig_7 : List UInt8 := dkwX3_writeBig_7 ++ []
def dkwX3_writeBig_6 : List UInt8 := [180, 0, 79, 16, 44, 27, 104, 21, 10, 96, 5, 96, 22, 14, 136, 79, 22, 4, 9, 148, 156, 0, 8, 42]
abbrev dktX3_writeBig_6 : List UInt8 := dkwX3_writeBig_6 ++ dktX3_writeBig_7
def dkwX3_writeBig_5 : List UInt8 := [79, 42, 180, 0, 79, 16, 44, 27, 104, 21, 10, 96, 4, 96, 22, 12, 16, 32, 125, 136, 79, 42]
abbrev dktX3_writeBig_5 : List UInt8 := dkwX3_writeBig_5 ++ dktX3_writeBig_6
def dkwX3_writeBig_4 : List UInt8 := [22, 7, 16, 64, 21, 11, 100, 125, 55, 14, 42, 180, 0, 79, 16, 44, 27, 104, 21, 10, 96, 22, 12, 136]
abbrev dktX3_writeBig_4 : List UInt8 := dkwX3_writeBig_4 ++ dktX3_writeBig_5
def dkwX3_writeBig_3 : List UInt8 := [21, 9, 16, 32, 112, 54, 11, 22, 7, 21, 11, 121, 55, 12, 21, 11, 154, 0, 7, 9, 167, 0, 11]
abbrev dktX3_writeBig_3 : List UInt8 := dkwX3_writeBig_3 ++ dktX3_writeBig_4
def dkwX3_writeBig_2 : List UInt8 := [55, 7, 21, 6, 158, 0, 10, 21, 6, 4, 100, 167, 0, 4, 3, 54, 9, 21, 9, 16, 32, 108, 54, 10]
abbrev dktX3_writeBig_2 : List UInt8 := dkwX3_writeBig_2 ++ dktX3_writeBig_3
def dkwX3_writeBig_1 : List UInt8 := [22, 4, 20, 0, 121, 127, 55, 7, 21, 6, 158, 0, 12, 22, 7, 20, 0, 123, 97, 167, 0, 5, 22, 7]
abbrev dktX3_writeBig_1 : List UInt8 := dkwX3_writeBig_1 ++ dktX3_writeBig_2
def dkwX3_writeBig_0 : List UInt8 := [42, 27, 182, 0, 109, 40, 184, 0, 113, 55, 4, 22, 4, 16, 52, 123, 20, 0, 119, 127, 136, 54, 6]
abbrev dktX3_writeBig_0 : List UInt8 := dkwX3_writeBig_0 ++ dktX3_writeBig_1
theorem dksX3_writeBig_0 : cX3_writeBig.data.toList.drop 0 = dktX3_writeBig_0 := by decide +kernel
theorem dksX3_writeBig_1 : cX3_writeBig.data.toList.drop 23 = dktX3_writeBig_1 := dk_seg dksX3_writeBig_0 23 rfl rfl
theorem dksX3_writeBig_2 : cX3_writeBig.data.toList.drop 47 = dktX3_writeBig_2 := dk_seg dksX3_writeBig_1 24 rfl rfl
theorem dksX3_writeBig_3 : cX3_writeBig.data.toList.drop 71 = dktX3_writeBig_3 := dk_seg dksX3_writeBig_2 24 rfl rfl
theorem dksX3_writeBig_4 : cX3_writeBig.data.toList.drop 94 = dktX3_writeBig_4 := dk_seg dksX3_writeBig_3 23 rfl rfl
theorem dksX3_writeBig_5 : cX3_writeBig.data.toList.drop 118 = dktX3_writeBig_5 := dk_seg dksX3_writeBig_4 24 rfl rfl
theorem dksX3_writeBig_6 : cX3_writeBig.data.toList.drop 140 = dktX3_writeBig_6 := dk_seg dksX3_writeBig_5 22 rfl rfl
theorem dksX3_writeBig_7 : cX3_writeBig.data.toList.drop 164 = dktX3_writeBig_7 := dk_seg dksX3_writeBig_6 24 rfl rfl
theorem dX3_writeBig_0 : decode cX3_writeBig 0 = .ok (.aload_n 0, 1) := dk_42 (dk_at dksX3_writeBig_0 0 rfl rfl)
theorem dX3_writeBig_1 : decode cX3_writeBig 1 = .ok (.iload_n 1, 1) := dk_27 (dk_at dksX3_writeBig_0 1 rfl rfl)
theorem dX3_writeBig_2 : decode cX3_writeBig 2 = .ok (.invokevirtual 109, 3) := dk_182 0 109 (dk_at dksX3_writeBig_0 2 rfl rfl)
theorem dX3_writeBig_5 : decode cX3_writeBig 5 = .ok (.dload_n 2, 1) := dk_40 (dk_at dksX3_writeBig_0 5 rfl rfl)
theorem dX3_writeBig_6 : decode cX3_writeBig 6 = .ok (.invokestatic 113, 3) := dk_184 0 113 (dk_at dksX3_writeBig_0 6 rfl rfl)
theorem dX3_writeBig_9 : decode cX3_writeBig 9 = .ok (.lstore 4, 2) := dk_55 4 (dk_at dksX3_writeBig_0 9 rfl rfl)
theorem dX3_writeBig_11 : decode cX3_writeBig 11 = .ok (.lload 4, 2) := dk_22 4 (dk_at dksX3_writeBig_0 11 rfl rfl)
theorem dX3_writeBig_13 : decode cX3_writeBig 13 = .ok (.bipush 52, 2) := dk_16 52 (dk_at dksX3_writeBig_0 13 rfl rfl)
theorem dX3_writeBig_15 : decode cX3_writeBig 15 = .ok (.lshr, 1) := dk_123 (dk_at dksX3_writeBig_0 15 rfl rfl)
theorem dX3_writeBig_16 : decode cX3_writeBig 16 = .ok (.ldc2_w 119, 3) := dk_20 0 119 (dk_at dksX3_writeBig_0 16 rfl rfl)
theorem dX3_writeBig_19 : decode cX3_writeBig 19 = .ok (.land, 1) := dk_127 (dk_at dksX3_writeBig_0 19 rfl rfl)
theorem dX3_writeBig_20 : decode cX3_writeBig 20 = .ok (.l2i, 1) := dk_136 (dk_at dksX3_writeBig_0 20 rfl rfl)
theorem dX3_writeBig_21 : decode cX3_writeBig 21 = .ok (.istore 6, 2) := dk_54 6 (dk_at dksX3_writeBig_0 21 rfl rfl)
theorem dX3_writeBig_23 : decode cX3_writeBig 23 = .ok (.lload 4, 2) := dk_22 4 (dk_at dksX3_writeBig_1 0 rfl rfl)
theorem dX3_writeBig_25 : decode cX3_writeBig 25 = .ok (.ldc2_w 121, 3) := dk_20 0 121 (dk_at dksX3_writeBig_1 2 rfl rfl)
theorem dX3_writeBig_28 : decode cX3_writeBig 28 = .ok (.land, 1) := dk_127 (dk_at dksX3_writeBig_1 5 rfl rfl)
theorem dX3_writeBig_29 : decode cX3_writeBig 29 = .ok (.lstore 7, 2) := dk_55 7 (dk_at dksX3_writeBig_1 6 rfl rfl)
theorem dX3_writeBig_31 : decode cX3_writeBig 31 = .ok (.iload 6, 2) := dk_21 6 (dk_at dksX3_writeBig_1 8 rfl rfl)
theorem dX3_writeBig_33 : decode cX3_writeBig 33 = .ok (.ifCond .le 12, 3) := dk_158 0 12 (dk_at dksX3_writeBig_1 10 rfl rfl)
theorem dX3_writeBig_36 : decode cX3_writeBig 36 = .ok (.lload 7, 2) := dk_22 7 (dk_at dksX3_writeBig_1 13 rfl rfl)
theorem dX3_writeBig_38 : decode cX3_writeBig 38 = .ok (.ldc2_w 123, 3) := dk_20 0 123 (dk_at dksX3_writeBig_1 15 rfl rfl)
theorem dX3_writeBig_41 : decode cX3_writeBig 41 = .ok (.ladd, 1) := dk_97 (dk_at dksX3_writeBig_1 18 rfl rfl)
theorem dX3_writeBig_42 : decode cX3_writeBig 42 = .ok (.goto 5, 3) := dk_167 0 5 (dk_at dksX3_writeBig_1 19 rfl rfl)
theorem dX3_writeBig_45 : decode cX3_writeBig 45 = .ok (.lload 7, 2) := dk_22 7 (dk_at dksX3_writeBig_1 22 rfl rfl)
theorem dX3_writeBig_47 : decode cX3_writeBig 47 = .ok (.lstore 7, 2) := dk_55 7 (dk_at dksX3_writeBig_2 0 rfl rfl)
theorem dX3_writeBig_49 : decode cX3_writeBig 49 = .ok (.iload 6, 2) := dk_21 6 (dk_at dksX3_writeBig_2 2 rfl rfl)
theorem dX3_writeBig_51 : decode cX3_writeBig 51 = .ok (.ifCond .le 10, 3) := dk_158 0 10 (dk_at dksX3_writeBig_2 4 rfl rfl)
theorem dX3_writeBig_54 : decode cX3_writeBig 54 = .ok (.iload 6, 2) := dk_21 6 (dk_at dksX3_writeBig_2 7 rfl rfl)
theorem dX3_writeBig_56 : decode cX3_writeBig 56 = .ok (.iconst 1, 1) := dk_4 (dk_at dksX3_writeBig_2 9 rfl rfl)
theorem dX3_writeBig_57 : decode cX3_writeBig 57 = .ok (.isub, 1) := dk_100 (dk_at dksX3_writeBig_2 10 rfl rfl)
theorem dX3_writeBig_58 : decode cX3_writeBig 58 = .ok (.goto 4, 3) := dk_167 0 4 (dk_at dksX3_writeBig_2 11 rfl rfl)
theorem dX3_writeBig_61 : decode cX3_writeBig 61 = .ok (.iconst 0, 1) := dk_3 (dk_at dksX3_writeBig_2 14 rfl rfl)
theorem dX3_writeBig_62 : decode cX3_writeBig 62 = .ok (.istore 9, 2) := dk_54 9 (dk_at dksX3_writeBig_2 15 rfl rfl)
theorem dX3_writeBig_64 : decode cX3_writeBig 64 = .ok (.iload 9, 2) := dk_21 9 (dk_at dksX3_writeBig_2 17 rfl rfl)
theorem dX3_writeBig_66 : decode cX3_writeBig 66 = .ok (.bipush 32, 2) := dk_16 32 (dk_at dksX3_writeBig_2 19 rfl rfl)
theorem dX3_writeBig_68 : decode cX3_writeBig 68 = .ok (.idiv, 1) := dk_108 (dk_at dksX3_writeBig_2 21 rfl rfl)
theorem dX3_writeBig_69 : decode cX3_writeBig 69 = .ok (.istore 10, 2) := dk_54 10 (dk_at dksX3_writeBig_2 22 rfl rfl)
theorem dX3_writeBig_71 : decode cX3_writeBig 71 = .ok (.iload 9, 2) := dk_21 9 (dk_at dksX3_writeBig_3 0 rfl rfl)
theorem dX3_writeBig_73 : decode cX3_writeBig 73 = .ok (.bipush 32, 2) := dk_16 32 (dk_at dksX3_writeBig_3 2 rfl rfl)
theorem dX3_writeBig_75 : decode cX3_writeBig 75 = .ok (.irem, 1) := dk_112 (dk_at dksX3_writeBig_3 4 rfl rfl)
theorem dX3_writeBig_76 : decode cX3_writeBig 76 = .ok (.istore 11, 2) := dk_54 11 (dk_at dksX3_writeBig_3 5 rfl rfl)
theorem dX3_writeBig_78 : decode cX3_writeBig 78 = .ok (.lload 7, 2) := dk_22 7 (dk_at dksX3_writeBig_3 7 rfl rfl)
theorem dX3_writeBig_80 : decode cX3_writeBig 80 = .ok (.iload 11, 2) := dk_21 11 (dk_at dksX3_writeBig_3 9 rfl rfl)
theorem dX3_writeBig_82 : decode cX3_writeBig 82 = .ok (.lshl, 1) := dk_121 (dk_at dksX3_writeBig_3 11 rfl rfl)
theorem dX3_writeBig_83 : decode cX3_writeBig 83 = .ok (.lstore 12, 2) := dk_55 12 (dk_at dksX3_writeBig_3 12 rfl rfl)
theorem dX3_writeBig_85 : decode cX3_writeBig 85 = .ok (.iload 11, 2) := dk_21 11 (dk_at dksX3_writeBig_3 14 rfl rfl)
theorem dX3_writeBig_87 : decode cX3_writeBig 87 = .ok (.ifCond .ne 7, 3) := dk_154 0 7 (dk_at dksX3_writeBig_3 16 rfl rfl)
theorem dX3_writeBig_90 : decode cX3_writeBig 90 = .ok (.lconst 0, 1) := dk_9 (dk_at dksX3_writeBig_3 19 rfl rfl)
theorem dX3_writeBig_91 : decode cX3_writeBig 91 = .ok (.goto 11, 3) := dk_167 0 11 (dk_at dksX3_writeBig_3 20 rfl rfl)
theorem dX3_writeBig_94 : decode cX3_writeBig 94 = .ok (.lload 7, 2) := dk_22 7 (dk_at dksX3_writeBig_4 0 rfl rfl)
theorem dX3_writeBig_96 : decode cX3_writeBig 96 = .ok (.bipush 64, 2) := dk_16 64 (dk_at dksX3_writeBig_4 2 rfl rfl)
theorem dX3_writeBig_98 : decode cX3_writeBig 98 = .ok (.iload 11, 2) := dk_21 11 (dk_at dksX3_writeBig_4 4 rfl rfl)
theorem dX3_writeBig_100 : decode cX3_writeBig 100 = .ok (.isub, 1) := dk_100 (dk_at dksX3_writeBig_4 6 rfl rfl)
theorem dX3_writeBig_101 : decode cX3_writeBig 101 = .ok (.lushr, 1) := dk_125 (dk_at dksX3_writeBig_4 7 rfl rfl)
theorem dX3_writeBig_102 : decode cX3_writeBig 102 = .ok (.lstore 14, 2) := dk_55 14 (dk_at dksX3_writeBig_4 8 rfl rfl)
theorem dX3_writeBig_104 : decode cX3_writeBig 104 = .ok (.aload_n 0, 1) := dk_42 (dk_at dksX3_writeBig_4 10 rfl rfl)
theorem dX3_writeBig_105 : decode cX3_writeBig 105 = .ok (.getfield 79, 3) := dk_180 0 79 (dk_at dksX3_writeBig_4 11 rfl rfl)
theorem dX3_writeBig_108 : decode cX3_writeBig 108 = .ok (.bipush 44, 2) := dk_16 44 (dk_at dksX3_writeBig_4 14 rfl rfl)
theorem dX3_writeBig_110 : decode cX3_writeBig 110 = .ok (.iload_n 1, 1) := dk_27 (dk_at dksX3_writeBig_4 16 rfl rfl)
theorem dX3_writeBig_111 : decode cX3_writeBig 111 = .ok (.imul, 1) := dk_104 (dk_at dksX3_writeBig_4 17 rfl rfl)
theorem dX3_writeBig_112 : decode cX3_writeBig 112 = .ok (.iload 10, 2) := dk_21 10 (dk_at dksX3_writeBig_4 18 rfl rfl)
theorem dX3_writeBig_114 : decode cX3_writeBig 114 = .ok (.iadd, 1) := dk_96 (dk_at dksX3_writeBig_4 20 rfl rfl)
theorem dX3_writeBig_115 : decode cX3_writeBig 115 = .ok (.lload 12, 2) := dk_22 12 (dk_at dksX3_writeBig_4 21 rfl rfl)
theorem dX3_writeBig_117 : decode cX3_writeBig 117 = .ok (.l2i, 1) := dk_136 (dk_at dksX3_writeBig_4 23 rfl rfl)
theorem dX3_writeBig_118 : decode cX3_writeBig 118 = .ok (.iastore, 1) := dk_79 (dk_at dksX3_writeBig_5 0 rfl rfl)
theorem dX3_writeBig_119 : decode cX3_writeBig 119 = .ok (.aload_n 0, 1) := dk_42 (dk_at dksX3_writeBig_5 1 rfl rfl)
theorem dX3_writeBig_120 : decode cX3_writeBig 120 = .ok (.getfield 79, 3) := dk_180 0 79 (dk_at dksX3_writeBig_5 2 rfl rfl)
theorem dX3_writeBig_123 : decode cX3_writeBig 123 = .ok (.bipush 44, 2) := dk_16 44 (dk_at dksX3_writeBig_5 5 rfl rfl)
theorem dX3_writeBig_125 : decode cX3_writeBig 125 = .ok (.iload_n 1, 1) := dk_27 (dk_at dksX3_writeBig_5 7 rfl rfl)
theorem dX3_writeBig_126 : decode cX3_writeBig 126 = .ok (.imul, 1) := dk_104 (dk_at dksX3_writeBig_5 8 rfl rfl)
theorem dX3_writeBig_127 : decode cX3_writeBig 127 = .ok (.iload 10, 2) := dk_21 10 (dk_at dksX3_writeBig_5 9 rfl rfl)
theorem dX3_writeBig_129 : decode cX3_writeBig 129 = .ok (.iadd, 1) := dk_96 (dk_at dksX3_writeBig_5 11 rfl rfl)
theorem dX3_writeBig_130 : decode cX3_writeBig 130 = .ok (.iconst 1, 1) := dk_4 (dk_at dksX3_writeBig_5 12 rfl rfl)
theorem dX3_writeBig_131 : decode cX3_writeBig 131 = .ok (.iadd, 1) := dk_96 (dk_at dksX3_writeBig_5 13 rfl rfl)
theorem dX3_writeBig_132 : decode cX3_writeBig 132 = .ok (.lload 12, 2) := dk_22 12 (dk_at dksX3_writeBig_5 14 rfl rfl)
theorem dX3_writeBig_134 : decode cX3_writeBig 134 = .ok (.bipush 32, 2) := dk_16 32 (dk_at dksX3_writeBig_5 16 rfl rfl)
theorem dX3_writeBig_136 : decode cX3_writeBig 136 = .ok (.lushr, 1) := dk_125 (dk_at dksX3_writeBig_5 18 rfl rfl)
theorem dX3_writeBig_137 : decode cX3_writeBig 137 = .ok (.l2i, 1) := dk_136 (dk_at dksX3_writeBig_5 19 rfl rfl)
theorem dX3_writeBig_138 : decode cX3_writeBig 138 = .ok (.iastore, 1) := dk_79 (dk_at dksX3_writeBig_5 20 rfl rfl)
theorem dX3_writeBig_139 : decode cX3_writeBig 139 = .ok (.aload_n 0, 1) := dk_42 (dk_at dksX3_writeBig_5 21 rfl rfl)
theorem dX3_writeBig_140 : decode cX3_writeBig 140 = .ok (.getfield 79, 3) := dk_180 0 79 (dk_at dksX3_writeBig_6 0 rfl rfl)
theorem dX3_writeBig_143 : decode cX3_writeBig 143 = .ok (.bipush 44, 2) := dk_16 44 (dk_at dksX3_writeBig_6 3 rfl rfl)
theorem dX3_writeBig_145 : decode cX3_writeBig 145 = .ok (.iload_n 1, 1) := dk_27 (dk_at dksX3_writeBig_6 5 rfl rfl)
theorem dX3_writeBig_146 : decode cX3_writeBig 146 = .ok (.imul, 1) := dk_104 (dk_at dksX3_writeBig_6 6 rfl rfl)
theorem dX3_writeBig_147 : decode cX3_writeBig 147 = .ok (.iload 10, 2) := dk_21 10 (dk_at dksX3_writeBig_6 7 rfl rfl)
theorem dX3_writeBig_149 : decode cX3_writeBig 149 = .ok (.iadd, 1) := dk_96 (dk_at dksX3_writeBig_6 9 rfl rfl)
theorem dX3_writeBig_150 : decode cX3_writeBig 150 = .ok (.iconst 2, 1) := dk_5 (dk_at dksX3_writeBig_6 10 rfl rfl)
theorem dX3_writeBig_151 : decode cX3_writeBig 151 = .ok (.iadd, 1) := dk_96 (dk_at dksX3_writeBig_6 11 rfl rfl)
theorem dX3_writeBig_152 : decode cX3_writeBig 152 = .ok (.lload 14, 2) := dk_22 14 (dk_at dksX3_writeBig_6 12 rfl rfl)
theorem dX3_writeBig_154 : decode cX3_writeBig 154 = .ok (.l2i, 1) := dk_136 (dk_at dksX3_writeBig_6 14 rfl rfl)
theorem dX3_writeBig_155 : decode cX3_writeBig 155 = .ok (.iastore, 1) := dk_79 (dk_at dksX3_writeBig_6 15 rfl rfl)
theorem dX3_writeBig_156 : decode cX3_writeBig 156 = .ok (.lload 4, 2) := dk_22 4 (dk_at dksX3_writeBig_6 16 rfl rfl)
theorem dX3_writeBig_158 : decode cX3_writeBig 158 = .ok (.lconst 0, 1) := dk_9 (dk_at dksX3_writeBig_6 18 rfl rfl)
theorem dX3_writeBig_159 : decode cX3_writeBig 159 = .ok (.lcmp, 1) := dk_148 (dk_at dksX3_writeBig_6 19 rfl rfl)
theorem dX3_writeBig_160 : decode cX3_writeBig 160 = .ok (.ifCond .ge 8, 3) := dk_156 0 8 (dk_at dksX3_writeBig_6 20 rfl rfl)
theorem dX3_writeBig_163 : decode cX3_writeBig 163 = .ok (.aload_n 0, 1) := dk_42 (dk_at dksX3_writeBig_6 23 rfl rfl)
theorem dX3_writeBig_164 : decode cX3_writeBig 164 = .ok (.iload_n 1, 1) := dk_27 (dk_at dksX3_writeBig_7 0 rfl rfl)
theorem dX3_writeBig_165 : decode cX3_writeBig 165 = .ok (.invokevirtual 125, 3) := dk_182 0 125 (dk_at dksX3_writeBig_7 1 rfl rfl)
theorem dX3_writeBig_168 : decode cX3_writeBig 168 = .ok (.return_, 1) := dk_177 (dk_at dksX3_writeBig_7 4 rfl rfl)
abbrev cX3_negate : ByteArray := prog_27_method_9_code
def yX3_negate : MethodName := ⟨RX3, "negate", "(I)V"⟩
def dkwX3_negate_2 : List UInt8 := [22, 5, 16, 32, 125, 65, 132, 4, 1, 167, 255, 207, 177]
abbrev dktX3_negate_2 : List UInt8 := dkwX3_negate_2 ++ []
def dkwX3_negate_1 : List UInt8 := [21, 4, 46, 2, 130, 133, 20, 0, 107, 127, 32, 97, 55, 5, 42, 180, 0, 79, 21, 4, 22, 5, 136, 79]
abbrev dktX3_negate_1 : List UInt8 := dkwX3_negate_1 ++ dktX3_negate_2
def dkwX3_negate_0 : List UInt8 := [10, 65, 16, 44, 27, 104, 54, 4, 21, 4, 16, 44, 27, 104, 16, 44, 96, 162, 0, 43, 42, 180, 0, 79]
abbrev dktX3_negate_0 : List UInt8 := dkwX3_negate_0 ++ dktX3_negate_1
theorem dksX3_negate_0 : cX3_negate.data.toList.drop 0 = dktX3_negate_0 := by decide +kernel
theorem dksX3_negate_1 : cX3_negate.data.toList.drop 24 = dktX3_negate_1 := dk_seg dksX3_negate_0 24 rfl rfl
theorem dksX3_negate_2 : cX3_negate.data.toList.drop 48 = dktX3_negate_2 := dk_seg dksX3_negate_1 24 rfl rfl
theorem dX3_negate_0 : decode cX3_negate 0 = .ok (.lconst 1, 1) := dk_10 (dk_at dksX3_negate_0 0 rfl rfl)
theorem dX3_negate_1 : decode cX3_negate 1 = .ok (.lstore_n 2, 1) := dk_65 (dk_at dksX3_negate_0 1 rfl rfl)
theorem dX3_negate_2 : decode cX3_negate 2 = .ok (.bipush 44, 2) := dk_16 44 (dk_at dksX3_negate_0 2 rfl rfl)
theorem dX3_negate_4 : decode cX3_negate 4 = .ok (.iload_n 1, 1) := dk_27 (dk_at dksX3_negate_0 4 rfl rfl)
theorem dX3_negate_5 : decode cX3_negate 5 = .ok (.imul, 1) := dk_104 (dk_at dksX3_negate_0 5 rfl rfl)
theorem dX3_negate_6 : decode cX3_negate 6 = .ok (.istore 4, 2) := dk_54 4 (dk_at dksX3_negate_0 6 rfl rfl)
theorem dX3_negate_8 : decode cX3_negate 8 = .ok (.iload 4, 2) := dk_21 4 (dk_at dksX3_negate_0 8 rfl rfl)
theorem dX3_negate_10 : decode cX3_negate 10 = .ok (.bipush 44, 2) := dk_16 44 (dk_at dksX3_negate_0 10 rfl rfl)
theorem dX3_negate_12 : decode cX3_negate 12 = .ok (.iload_n 1, 1) := dk_27 (dk_at dksX3_negate_0 12 rfl rfl)
theorem dX3_negate_13 : decode cX3_negate 13 = .ok (.imul, 1) := dk_104 (dk_at dksX3_negate_0 13 rfl rfl)
theorem dX3_negate_14 : decode cX3_negate 14 = .ok (.bipush 44, 2) := dk_16 44 (dk_at dksX3_negate_0 14 rfl rfl)
theorem dX3_negate_16 : decode cX3_negate 16 = .ok (.iadd, 1) := dk_96 (dk_at dksX3_negate_0 16 rfl rfl)
theorem dX3_negate_17 : decode cX3_negate 17 = .ok (.if_icmp .ge 43, 3) := dk_162 0 43 (dk_at dksX3_negate_0 17 rfl rfl)
theorem dX3_negate_20 : decode cX3_negate 20 = .ok (.aload_n 0, 1) := dk_42 (dk_at dksX3_negate_0 20 rfl rfl)
theorem dX3_negate_21 : decode cX3_negate 21 = .ok (.getfield 79, 3) := dk_180 0 79 (dk_at dksX3_negate_0 21 rfl rfl)
theorem dX3_negate_24 : decode cX3_negate 24 = .ok (.iload 4, 2) := dk_21 4 (dk_at dksX3_negate_1 0 rfl rfl)
theorem dX3_negate_26 : decode cX3_negate 26 = .ok (.iaload, 1) := dk_46 (dk_at dksX3_negate_1 2 rfl rfl)
theorem dX3_negate_27 : decode cX3_negate 27 = .ok (.iconst (-1), 1) := dk_2 (dk_at dksX3_negate_1 3 rfl rfl)
theorem dX3_negate_28 : decode cX3_negate 28 = .ok (.ixor, 1) := dk_130 (dk_at dksX3_negate_1 4 rfl rfl)
theorem dX3_negate_29 : decode cX3_negate 29 = .ok (.i2l, 1) := dk_133 (dk_at dksX3_negate_1 5 rfl rfl)
theorem dX3_negate_30 : decode cX3_negate 30 = .ok (.ldc2_w 107, 3) := dk_20 0 107 (dk_at dksX3_negate_1 6 rfl rfl)
theorem dX3_negate_33 : decode cX3_negate 33 = .ok (.land, 1) := dk_127 (dk_at dksX3_negate_1 9 rfl rfl)
theorem dX3_negate_34 : decode cX3_negate 34 = .ok (.lload_n 2, 1) := dk_32 (dk_at dksX3_negate_1 10 rfl rfl)
theorem dX3_negate_35 : decode cX3_negate 35 = .ok (.ladd, 1) := dk_97 (dk_at dksX3_negate_1 11 rfl rfl)
theorem dX3_negate_36 : decode cX3_negate 36 = .ok (.lstore 5, 2) := dk_55 5 (dk_at dksX3_negate_1 12 rfl rfl)
theorem dX3_negate_38 : decode cX3_negate 38 = .ok (.aload_n 0, 1) := dk_42 (dk_at dksX3_negate_1 14 rfl rfl)
theorem dX3_negate_39 : decode cX3_negate 39 = .ok (.getfield 79, 3) := dk_180 0 79 (dk_at dksX3_negate_1 15 rfl rfl)
theorem dX3_negate_42 : decode cX3_negate 42 = .ok (.iload 4, 2) := dk_21 4 (dk_at dksX3_negate_1 18 rfl rfl)
theorem dX3_negate_44 : decode cX3_negate 44 = .ok (.lload 5, 2) := dk_22 5 (dk_at dksX3_negate_1 20 rfl rfl)
theorem dX3_negate_46 : decode cX3_negate 46 = .ok (.l2i, 1) := dk_136 (dk_at dksX3_negate_1 22 rfl rfl)
theorem dX3_negate_47 : decode cX3_negate 47 = .ok (.iastore, 1) := dk_79 (dk_at dksX3_negate_1 23 rfl rfl)
theorem dX3_negate_48 : decode cX3_negate 48 = .ok (.lload 5, 2) := dk_22 5 (dk_at dksX3_negate_2 0 rfl rfl)
theorem dX3_negate_50 : decode cX3_negate 50 = .ok (.bipush 32, 2) := dk_16 32 (dk_at dksX3_negate_2 2 rfl rfl)
theorem dX3_negate_52 : decode cX3_negate 52 = .ok (.lushr, 1) := dk_125 (dk_at dksX3_negate_2 4 rfl rfl)
theorem dX3_negate_53 : decode cX3_negate 53 = .ok (.lstore_n 2, 1) := dk_65 (dk_at dksX3_negate_2 5 rfl rfl)
theorem dX3_negate_54 : decode cX3_negate 54 = .ok (.iinc 4 1, 3) := dk_132 4 1 (dk_at dksX3_negate_2 6 rfl rfl)
theorem dX3_negate_57 : decode cX3_negate 57 = .ok (.goto (-49), 3) := dk_167 255 207 (dk_at dksX3_negate_2 9 rfl rfl)
theorem dX3_negate_60 : decode cX3_negate 60 = .ok (.return_, 1) := dk_177 (dk_at dksX3_negate_2 12 rfl rfl)
abbrev cX3_addBig : ByteArray := prog_27_method_11_code
def yX3_addBig : MethodName := ⟨RX3, "addBig", "(II)V"⟩
def dkwX3_addBig_3 : List UInt8 := [132, 5, 1, 167, 255, 186, 177]
abbrev dktX3_addBig_3 : List UInt8 := dkwX3_addBig_3 ++ []
def dkwX3_addBig_2 : List UInt8 := [97, 55, 6, 42, 180, 0, 79, 16, 44, 27, 104, 21, 5, 96, 22, 6, 136, 79, 22, 6, 16, 32, 125, 66]
abbrev dktX3_addBig_2 : List UInt8 := dkwX3_addBig_2 ++ dktX3_addBig_3
def dkwX3_addBig_1 : List UInt8 := [133, 20, 0, 107, 127, 42, 180, 0, 79, 16, 44, 28, 104, 21, 5, 96, 46, 133, 20, 0, 107, 127, 97, 33]
abbrev dktX3_addBig_1 : List UInt8 := dkwX3_addBig_1 ++ dktX3_addBig_2
def dkwX3_addBig_0 : List UInt8 := [9, 66, 3, 54, 5, 21, 5, 16, 44, 162, 0, 69, 42, 180, 0, 79, 16, 44, 27, 104, 21, 5, 96, 46]
abbrev dktX3_addBig_0 : List UInt8 := dkwX3_addBig_0 ++ dktX3_addBig_1
theorem dksX3_addBig_0 : cX3_addBig.data.toList.drop 0 = dktX3_addBig_0 := by decide +kernel
theorem dksX3_addBig_1 : cX3_addBig.data.toList.drop 24 = dktX3_addBig_1 := dk_seg dksX3_addBig_0 24 rfl rfl
theorem dksX3_addBig_2 : cX3_addBig.data.toList.drop 48 = dktX3_addBig_2 := dk_seg dksX3_addBig_1 24 rfl rfl
theorem dksX3_addBig_3 : cX3_addBig.data.toList.drop 72 = dktX3_addBig_3 := dk_seg dksX3_addBig_2 24 rfl rfl
theorem dX3_addBig_0 : decode cX3_addBig 0 = .ok (.lconst 0, 1) := dk_9 (dk_at dksX3_addBig_0 0 rfl rfl)
theorem dX3_addBig_1 : decode cX3_addBig 1 = .ok (.lstore_n 3, 1) := dk_66 (dk_at dksX3_addBig_0 1 rfl rfl)
theorem dX3_addBig_2 : decode cX3_addBig 2 = .ok (.iconst 0, 1) := dk_3 (dk_at dksX3_addBig_0 2 rfl rfl)
theorem dX3_addBig_3 : decode cX3_addBig 3 = .ok (.istore 5, 2) := dk_54 5 (dk_at dksX3_addBig_0 3 rfl rfl)
theorem dX3_addBig_5 : decode cX3_addBig 5 = .ok (.iload 5, 2) := dk_21 5 (dk_at dksX3_addBig_0 5 rfl rfl)
theorem dX3_addBig_7 : decode cX3_addBig 7 = .ok (.bipush 44, 2) := dk_16 44 (dk_at dksX3_addBig_0 7 rfl rfl)
theorem dX3_addBig_9 : decode cX3_addBig 9 = .ok (.if_icmp .ge 69, 3) := dk_162 0 69 (dk_at dksX3_addBig_0 9 rfl rfl)
theorem dX3_addBig_12 : decode cX3_addBig 12 = .ok (.aload_n 0, 1) := dk_42 (dk_at dksX3_addBig_0 12 rfl rfl)
theorem dX3_addBig_13 : decode cX3_addBig 13 = .ok (.getfield 79, 3) := dk_180 0 79 (dk_at dksX3_addBig_0 13 rfl rfl)
theorem dX3_addBig_16 : decode cX3_addBig 16 = .ok (.bipush 44, 2) := dk_16 44 (dk_at dksX3_addBig_0 16 rfl rfl)
theorem dX3_addBig_18 : decode cX3_addBig 18 = .ok (.iload_n 1, 1) := dk_27 (dk_at dksX3_addBig_0 18 rfl rfl)
theorem dX3_addBig_19 : decode cX3_addBig 19 = .ok (.imul, 1) := dk_104 (dk_at dksX3_addBig_0 19 rfl rfl)
theorem dX3_addBig_20 : decode cX3_addBig 20 = .ok (.iload 5, 2) := dk_21 5 (dk_at dksX3_addBig_0 20 rfl rfl)
theorem dX3_addBig_22 : decode cX3_addBig 22 = .ok (.iadd, 1) := dk_96 (dk_at dksX3_addBig_0 22 rfl rfl)
theorem dX3_addBig_23 : decode cX3_addBig 23 = .ok (.iaload, 1) := dk_46 (dk_at dksX3_addBig_0 23 rfl rfl)
theorem dX3_addBig_24 : decode cX3_addBig 24 = .ok (.i2l, 1) := dk_133 (dk_at dksX3_addBig_1 0 rfl rfl)
theorem dX3_addBig_25 : decode cX3_addBig 25 = .ok (.ldc2_w 107, 3) := dk_20 0 107 (dk_at dksX3_addBig_1 1 rfl rfl)
theorem dX3_addBig_28 : decode cX3_addBig 28 = .ok (.land, 1) := dk_127 (dk_at dksX3_addBig_1 4 rfl rfl)
theorem dX3_addBig_29 : decode cX3_addBig 29 = .ok (.aload_n 0, 1) := dk_42 (dk_at dksX3_addBig_1 5 rfl rfl)
theorem dX3_addBig_30 : decode cX3_addBig 30 = .ok (.getfield 79, 3) := dk_180 0 79 (dk_at dksX3_addBig_1 6 rfl rfl)
theorem dX3_addBig_33 : decode cX3_addBig 33 = .ok (.bipush 44, 2) := dk_16 44 (dk_at dksX3_addBig_1 9 rfl rfl)
theorem dX3_addBig_35 : decode cX3_addBig 35 = .ok (.iload_n 2, 1) := dk_28 (dk_at dksX3_addBig_1 11 rfl rfl)
theorem dX3_addBig_36 : decode cX3_addBig 36 = .ok (.imul, 1) := dk_104 (dk_at dksX3_addBig_1 12 rfl rfl)
theorem dX3_addBig_37 : decode cX3_addBig 37 = .ok (.iload 5, 2) := dk_21 5 (dk_at dksX3_addBig_1 13 rfl rfl)
theorem dX3_addBig_39 : decode cX3_addBig 39 = .ok (.iadd, 1) := dk_96 (dk_at dksX3_addBig_1 15 rfl rfl)
theorem dX3_addBig_40 : decode cX3_addBig 40 = .ok (.iaload, 1) := dk_46 (dk_at dksX3_addBig_1 16 rfl rfl)
theorem dX3_addBig_41 : decode cX3_addBig 41 = .ok (.i2l, 1) := dk_133 (dk_at dksX3_addBig_1 17 rfl rfl)
theorem dX3_addBig_42 : decode cX3_addBig 42 = .ok (.ldc2_w 107, 3) := dk_20 0 107 (dk_at dksX3_addBig_1 18 rfl rfl)
theorem dX3_addBig_45 : decode cX3_addBig 45 = .ok (.land, 1) := dk_127 (dk_at dksX3_addBig_1 21 rfl rfl)
theorem dX3_addBig_46 : decode cX3_addBig 46 = .ok (.ladd, 1) := dk_97 (dk_at dksX3_addBig_1 22 rfl rfl)
theorem dX3_addBig_47 : decode cX3_addBig 47 = .ok (.lload_n 3, 1) := dk_33 (dk_at dksX3_addBig_1 23 rfl rfl)
theorem dX3_addBig_48 : decode cX3_addBig 48 = .ok (.ladd, 1) := dk_97 (dk_at dksX3_addBig_2 0 rfl rfl)
theorem dX3_addBig_49 : decode cX3_addBig 49 = .ok (.lstore 6, 2) := dk_55 6 (dk_at dksX3_addBig_2 1 rfl rfl)
theorem dX3_addBig_51 : decode cX3_addBig 51 = .ok (.aload_n 0, 1) := dk_42 (dk_at dksX3_addBig_2 3 rfl rfl)
theorem dX3_addBig_52 : decode cX3_addBig 52 = .ok (.getfield 79, 3) := dk_180 0 79 (dk_at dksX3_addBig_2 4 rfl rfl)
theorem dX3_addBig_55 : decode cX3_addBig 55 = .ok (.bipush 44, 2) := dk_16 44 (dk_at dksX3_addBig_2 7 rfl rfl)
theorem dX3_addBig_57 : decode cX3_addBig 57 = .ok (.iload_n 1, 1) := dk_27 (dk_at dksX3_addBig_2 9 rfl rfl)
theorem dX3_addBig_58 : decode cX3_addBig 58 = .ok (.imul, 1) := dk_104 (dk_at dksX3_addBig_2 10 rfl rfl)
theorem dX3_addBig_59 : decode cX3_addBig 59 = .ok (.iload 5, 2) := dk_21 5 (dk_at dksX3_addBig_2 11 rfl rfl)
theorem dX3_addBig_61 : decode cX3_addBig 61 = .ok (.iadd, 1) := dk_96 (dk_at dksX3_addBig_2 13 rfl rfl)
theorem dX3_addBig_62 : decode cX3_addBig 62 = .ok (.lload 6, 2) := dk_22 6 (dk_at dksX3_addBig_2 14 rfl rfl)
theorem dX3_addBig_64 : decode cX3_addBig 64 = .ok (.l2i, 1) := dk_136 (dk_at dksX3_addBig_2 16 rfl rfl)
theorem dX3_addBig_65 : decode cX3_addBig 65 = .ok (.iastore, 1) := dk_79 (dk_at dksX3_addBig_2 17 rfl rfl)
theorem dX3_addBig_66 : decode cX3_addBig 66 = .ok (.lload 6, 2) := dk_22 6 (dk_at dksX3_addBig_2 18 rfl rfl)
theorem dX3_addBig_68 : decode cX3_addBig 68 = .ok (.bipush 32, 2) := dk_16 32 (dk_at dksX3_addBig_2 20 rfl rfl)
theorem dX3_addBig_70 : decode cX3_addBig 70 = .ok (.lushr, 1) := dk_125 (dk_at dksX3_addBig_2 22 rfl rfl)
theorem dX3_addBig_71 : decode cX3_addBig 71 = .ok (.lstore_n 3, 1) := dk_66 (dk_at dksX3_addBig_2 23 rfl rfl)
theorem dX3_addBig_72 : decode cX3_addBig 72 = .ok (.iinc 5 1, 3) := dk_132 5 1 (dk_at dksX3_addBig_3 0 rfl rfl)
theorem dX3_addBig_75 : decode cX3_addBig 75 = .ok (.goto (-70), 3) := dk_167 255 186 (dk_at dksX3_addBig_3 3 rfl rfl)
theorem dX3_addBig_78 : decode cX3_addBig 78 = .ok (.return_, 1) := dk_177 (dk_at dksX3_addBig_3 6 rfl rfl)
abbrev cX3_nearest : ByteArray := prog_27_method_17_code
def yX3_nearest : MethodName := ⟨RX3, "nearest", "(IZ)D"⟩
def dkwX3_nearest_10 : List UInt8 := [22, 6, 10, 97, 55, 6, 29, 135, 22, 6, 21, 5, 184, 0, 148, 107, 175]
abbrev dktX3_nearest_10 : List UInt8 := dkwX3_nearest_10 ++ []
def dkwX3_nearest_9 : List UInt8 := [167, 255, 221, 21, 8, 153, 0, 25, 21, 9, 154, 0, 14, 22, 6, 20, 0, 146, 113, 10, 148, 154, 0, 9]
abbrev dktX3_nearest_9 : List UInt8 := dkwX3_nearest_9 ++ dktX3_nearest_10
def dkwX3_nearest_8 : List UInt8 := [154, 0, 14, 42, 16, 23, 21, 10, 182, 0, 142, 153, 0, 7, 4, 167, 0, 4, 3, 54, 9, 132, 10, 1]
abbrev dktX3_nearest_8 : List UInt8 := dkwX3_nearest_8 ++ dktX3_nearest_9
def dkwX3_nearest_7 : List UInt8 := [4, 167, 0, 4, 3, 54, 8, 3, 54, 9, 3, 54, 10, 21, 10, 21, 5, 4, 100, 162, 0, 32, 21, 9]
abbrev dktX3_nearest_7 : List UInt8 := dkwX3_nearest_7 ++ dktX3_nearest_8
def dkwX3_nearest_6 : List UInt8 := [132, 8, 255, 167, 255, 221, 21, 5, 158, 0, 20, 42, 16, 23, 21, 5, 4, 100, 182, 0, 142, 153, 0, 7]
abbrev dktX3_nearest_6 : List UInt8 := dkwX3_nearest_6 ++ dktX3_nearest_7
def dkwX3_nearest_5 : List UInt8 := [22, 6, 105, 42, 16, 23, 21, 8, 182, 0, 142, 153, 0, 7, 10, 167, 0, 4, 9, 97, 55, 6]
abbrev dktX3_nearest_5 : List UInt8 := dkwX3_nearest_5 ++ dktX3_nearest_6
def dkwX3_nearest_4 : List UInt8 := [167, 0, 5, 21, 5, 54, 5, 9, 55, 6, 21, 4, 54, 8, 21, 8, 21, 5, 161, 0, 34, 20, 0, 146]
abbrev dktX3_nearest_4 : List UInt8 := dkwX3_nearest_4 ++ dktX3_nearest_5
def dkwX3_nearest_3 : List UInt8 := [162, 0, 9, 17, 3, 157, 167, 0, 8, 21, 4, 16, 23, 100, 54, 5, 21, 5, 156, 0, 7, 3]
abbrev dktX3_nearest_3 : List UInt8 := dkwX3_nearest_3 ++ dktX3_nearest_4
def dkwX3_nearest_2 : List UInt8 := [167, 255, 242, 28, 153, 0, 11, 21, 4, 16, 52, 100, 167, 0, 25, 21, 4, 16, 23, 100, 17, 3, 157]
abbrev dktX3_nearest_2 : List UInt8 := dkwX3_nearest_2 ++ dktX3_nearest_3
def dkwX3_nearest_1 : List UInt8 := [16, 23, 182, 0, 125, 17, 5, 127, 54, 4, 42, 16, 23, 21, 4, 182, 0, 142, 154, 0, 9, 132, 4, 255]
abbrev dktX3_nearest_1 : List UInt8 := dkwX3_nearest_1 ++ dktX3_nearest_2
def dkwX3_nearest_0 : List UInt8 := [42, 27, 182, 0, 136, 62, 29, 154, 0, 5, 14, 175, 42, 16, 23, 27, 182, 0, 139, 29, 156, 0, 9, 42]
abbrev dktX3_nearest_0 : List UInt8 := dkwX3_nearest_0 ++ dktX3_nearest_1
theorem dksX3_nearest_0 : cX3_nearest.data.toList.drop 0 = dktX3_nearest_0 := by decide +kernel
theorem dksX3_nearest_1 : cX3_nearest.data.toList.drop 24 = dktX3_nearest_1 := dk_seg dksX3_nearest_0 24 rfl rfl
theorem dksX3_nearest_2 : cX3_nearest.data.toList.drop 48 = dktX3_nearest_2 := dk_seg dksX3_nearest_1 24 rfl rfl
theorem dksX3_nearest_3 : cX3_nearest.data.toList.drop 71 = dktX3_nearest_3 := dk_seg dksX3_nearest_2 23 rfl rfl
theorem dksX3_nearest_4 : cX3_nearest.data.toList.drop 93 = dktX3_nearest_4 := dk_seg dksX3_nearest_3 22 rfl rfl
theorem dksX3_nearest_5 : cX3_nearest.data.toList.drop 117 = dktX3_nearest_5 := dk_seg dksX3_nearest_4 24 rfl rfl
theorem dksX3_nearest_6 : cX3_nearest.data.toList.drop 139 = dktX3_nearest_6 := dk_seg dksX3_nearest_5 22 rfl rfl
theorem dksX3_nearest_7 : cX3_nearest.data.toList.drop 163 = dktX3_nearest_7 := dk_seg dksX3_nearest_6 24 rfl rfl
theorem dksX3_nearest_8 : cX3_nearest.data.toList.drop 187 = dktX3_nearest_8 := dk_seg dksX3_nearest_7 24 rfl rfl
theorem dksX3_nearest_9 : cX3_nearest.data.toList.drop 211 = dktX3_nearest_9 := dk_seg dksX3_nearest_8 24 rfl rfl
theorem dksX3_nearest_10 : cX3_nearest.data.toList.drop 235 = dktX3_nearest_10 := dk_seg dksX3_nearest_9 24 rfl rfl
theorem dX3_nearest_0 : decode cX3_nearest 0 = .ok (.aload_n 0, 1) := dk_42 (dk_at dksX3_nearest_0 0 rfl rfl)
theorem dX3_nearest_1 : decode cX3_nearest 1 = .ok (.iload_n 1, 1) := dk_27 (dk_at dksX3_nearest_0 1 rfl rfl)
theorem dX3_nearest_2 : decode cX3_nearest 2 = .ok (.invokevirtual 136, 3) := dk_182 0 136 (dk_at dksX3_nearest_0 2 rfl rfl)
theorem dX3_nearest_5 : decode cX3_nearest 5 = .ok (.istore_n 3, 1) := dk_62 (dk_at dksX3_nearest_0 5 rfl rfl)
theorem dX3_nearest_6 : decode cX3_nearest 6 = .ok (.iload_n 3, 1) := dk_29 (dk_at dksX3_nearest_0 6 rfl rfl)
theorem dX3_nearest_7 : decode cX3_nearest 7 = .ok (.ifCond .ne 5, 3) := dk_154 0 5 (dk_at dksX3_nearest_0 7 rfl rfl)
theorem dX3_nearest_10 : decode cX3_nearest 10 = .ok (.dconst 0, 1) := dk_14 (dk_at dksX3_nearest_0 10 rfl rfl)
theorem dX3_nearest_11 : decode cX3_nearest 11 = .ok (.dreturn, 1) := dk_175 (dk_at dksX3_nearest_0 11 rfl rfl)
theorem dX3_nearest_12 : decode cX3_nearest 12 = .ok (.aload_n 0, 1) := dk_42 (dk_at dksX3_nearest_0 12 rfl rfl)
theorem dX3_nearest_13 : decode cX3_nearest 13 = .ok (.bipush 23, 2) := dk_16 23 (dk_at dksX3_nearest_0 13 rfl rfl)
theorem dX3_nearest_15 : decode cX3_nearest 15 = .ok (.iload_n 1, 1) := dk_27 (dk_at dksX3_nearest_0 15 rfl rfl)
theorem dX3_nearest_16 : decode cX3_nearest 16 = .ok (.invokevirtual 139, 3) := dk_182 0 139 (dk_at dksX3_nearest_0 16 rfl rfl)
theorem dX3_nearest_19 : decode cX3_nearest 19 = .ok (.iload_n 3, 1) := dk_29 (dk_at dksX3_nearest_0 19 rfl rfl)
theorem dX3_nearest_20 : decode cX3_nearest 20 = .ok (.ifCond .ge 9, 3) := dk_156 0 9 (dk_at dksX3_nearest_0 20 rfl rfl)
theorem dX3_nearest_23 : decode cX3_nearest 23 = .ok (.aload_n 0, 1) := dk_42 (dk_at dksX3_nearest_0 23 rfl rfl)
theorem dX3_nearest_24 : decode cX3_nearest 24 = .ok (.bipush 23, 2) := dk_16 23 (dk_at dksX3_nearest_1 0 rfl rfl)
theorem dX3_nearest_26 : decode cX3_nearest 26 = .ok (.invokevirtual 125, 3) := dk_182 0 125 (dk_at dksX3_nearest_1 2 rfl rfl)
theorem dX3_nearest_29 : decode cX3_nearest 29 = .ok (.sipush 1407, 3) := dk_17 5 127 (dk_at dksX3_nearest_1 5 rfl rfl)
theorem dX3_nearest_32 : decode cX3_nearest 32 = .ok (.istore 4, 2) := dk_54 4 (dk_at dksX3_nearest_1 8 rfl rfl)
theorem dX3_nearest_34 : decode cX3_nearest 34 = .ok (.aload_n 0, 1) := dk_42 (dk_at dksX3_nearest_1 10 rfl rfl)
theorem dX3_nearest_35 : decode cX3_nearest 35 = .ok (.bipush 23, 2) := dk_16 23 (dk_at dksX3_nearest_1 11 rfl rfl)
theorem dX3_nearest_37 : decode cX3_nearest 37 = .ok (.iload 4, 2) := dk_21 4 (dk_at dksX3_nearest_1 13 rfl rfl)
theorem dX3_nearest_39 : decode cX3_nearest 39 = .ok (.invokevirtual 142, 3) := dk_182 0 142 (dk_at dksX3_nearest_1 15 rfl rfl)
theorem dX3_nearest_42 : decode cX3_nearest 42 = .ok (.ifCond .ne 9, 3) := dk_154 0 9 (dk_at dksX3_nearest_1 18 rfl rfl)
theorem dX3_nearest_45 : decode cX3_nearest 45 = .ok (.iinc 4 (-1), 3) := dk_132 4 255 (dk_at dksX3_nearest_1 21 rfl rfl)
theorem dX3_nearest_48 : decode cX3_nearest 48 = .ok (.goto (-14), 3) := dk_167 255 242 (dk_at dksX3_nearest_2 0 rfl rfl)
theorem dX3_nearest_51 : decode cX3_nearest 51 = .ok (.iload_n 2, 1) := dk_28 (dk_at dksX3_nearest_2 3 rfl rfl)
theorem dX3_nearest_52 : decode cX3_nearest 52 = .ok (.ifCond .eq 11, 3) := dk_153 0 11 (dk_at dksX3_nearest_2 4 rfl rfl)
theorem dX3_nearest_55 : decode cX3_nearest 55 = .ok (.iload 4, 2) := dk_21 4 (dk_at dksX3_nearest_2 7 rfl rfl)
theorem dX3_nearest_57 : decode cX3_nearest 57 = .ok (.bipush 52, 2) := dk_16 52 (dk_at dksX3_nearest_2 9 rfl rfl)
theorem dX3_nearest_59 : decode cX3_nearest 59 = .ok (.isub, 1) := dk_100 (dk_at dksX3_nearest_2 11 rfl rfl)
theorem dX3_nearest_60 : decode cX3_nearest 60 = .ok (.goto 25, 3) := dk_167 0 25 (dk_at dksX3_nearest_2 12 rfl rfl)
theorem dX3_nearest_63 : decode cX3_nearest 63 = .ok (.iload 4, 2) := dk_21 4 (dk_at dksX3_nearest_2 15 rfl rfl)
theorem dX3_nearest_65 : decode cX3_nearest 65 = .ok (.bipush 23, 2) := dk_16 23 (dk_at dksX3_nearest_2 17 rfl rfl)
theorem dX3_nearest_67 : decode cX3_nearest 67 = .ok (.isub, 1) := dk_100 (dk_at dksX3_nearest_2 19 rfl rfl)
theorem dX3_nearest_68 : decode cX3_nearest 68 = .ok (.sipush 925, 3) := dk_17 3 157 (dk_at dksX3_nearest_2 20 rfl rfl)
theorem dX3_nearest_71 : decode cX3_nearest 71 = .ok (.if_icmp .ge 9, 3) := dk_162 0 9 (dk_at dksX3_nearest_3 0 rfl rfl)
theorem dX3_nearest_74 : decode cX3_nearest 74 = .ok (.sipush 925, 3) := dk_17 3 157 (dk_at dksX3_nearest_3 3 rfl rfl)
theorem dX3_nearest_77 : decode cX3_nearest 77 = .ok (.goto 8, 3) := dk_167 0 8 (dk_at dksX3_nearest_3 6 rfl rfl)
theorem dX3_nearest_80 : decode cX3_nearest 80 = .ok (.iload 4, 2) := dk_21 4 (dk_at dksX3_nearest_3 9 rfl rfl)
theorem dX3_nearest_82 : decode cX3_nearest 82 = .ok (.bipush 23, 2) := dk_16 23 (dk_at dksX3_nearest_3 11 rfl rfl)
theorem dX3_nearest_84 : decode cX3_nearest 84 = .ok (.isub, 1) := dk_100 (dk_at dksX3_nearest_3 13 rfl rfl)
theorem dX3_nearest_85 : decode cX3_nearest 85 = .ok (.istore 5, 2) := dk_54 5 (dk_at dksX3_nearest_3 14 rfl rfl)
theorem dX3_nearest_87 : decode cX3_nearest 87 = .ok (.iload 5, 2) := dk_21 5 (dk_at dksX3_nearest_3 16 rfl rfl)
theorem dX3_nearest_89 : decode cX3_nearest 89 = .ok (.ifCond .ge 7, 3) := dk_156 0 7 (dk_at dksX3_nearest_3 18 rfl rfl)
theorem dX3_nearest_92 : decode cX3_nearest 92 = .ok (.iconst 0, 1) := dk_3 (dk_at dksX3_nearest_3 21 rfl rfl)
theorem dX3_nearest_93 : decode cX3_nearest 93 = .ok (.goto 5, 3) := dk_167 0 5 (dk_at dksX3_nearest_4 0 rfl rfl)
theorem dX3_nearest_96 : decode cX3_nearest 96 = .ok (.iload 5, 2) := dk_21 5 (dk_at dksX3_nearest_4 3 rfl rfl)
theorem dX3_nearest_98 : decode cX3_nearest 98 = .ok (.istore 5, 2) := dk_54 5 (dk_at dksX3_nearest_4 5 rfl rfl)
theorem dX3_nearest_100 : decode cX3_nearest 100 = .ok (.lconst 0, 1) := dk_9 (dk_at dksX3_nearest_4 7 rfl rfl)
theorem dX3_nearest_101 : decode cX3_nearest 101 = .ok (.lstore 6, 2) := dk_55 6 (dk_at dksX3_nearest_4 8 rfl rfl)
theorem dX3_nearest_103 : decode cX3_nearest 103 = .ok (.iload 4, 2) := dk_21 4 (dk_at dksX3_nearest_4 10 rfl rfl)
theorem dX3_nearest_105 : decode cX3_nearest 105 = .ok (.istore 8, 2) := dk_54 8 (dk_at dksX3_nearest_4 12 rfl rfl)
theorem dX3_nearest_107 : decode cX3_nearest 107 = .ok (.iload 8, 2) := dk_21 8 (dk_at dksX3_nearest_4 14 rfl rfl)
theorem dX3_nearest_109 : decode cX3_nearest 109 = .ok (.iload 5, 2) := dk_21 5 (dk_at dksX3_nearest_4 16 rfl rfl)
theorem dX3_nearest_111 : decode cX3_nearest 111 = .ok (.if_icmp .lt 34, 3) := dk_161 0 34 (dk_at dksX3_nearest_4 18 rfl rfl)
theorem dX3_nearest_114 : decode cX3_nearest 114 = .ok (.ldc2_w 146, 3) := dk_20 0 146 (dk_at dksX3_nearest_4 21 rfl rfl)
theorem dX3_nearest_117 : decode cX3_nearest 117 = .ok (.lload 6, 2) := dk_22 6 (dk_at dksX3_nearest_5 0 rfl rfl)
theorem dX3_nearest_119 : decode cX3_nearest 119 = .ok (.lmul, 1) := dk_105 (dk_at dksX3_nearest_5 2 rfl rfl)
theorem dX3_nearest_120 : decode cX3_nearest 120 = .ok (.aload_n 0, 1) := dk_42 (dk_at dksX3_nearest_5 3 rfl rfl)
theorem dX3_nearest_121 : decode cX3_nearest 121 = .ok (.bipush 23, 2) := dk_16 23 (dk_at dksX3_nearest_5 4 rfl rfl)
theorem dX3_nearest_123 : decode cX3_nearest 123 = .ok (.iload 8, 2) := dk_21 8 (dk_at dksX3_nearest_5 6 rfl rfl)
theorem dX3_nearest_125 : decode cX3_nearest 125 = .ok (.invokevirtual 142, 3) := dk_182 0 142 (dk_at dksX3_nearest_5 8 rfl rfl)
theorem dX3_nearest_128 : decode cX3_nearest 128 = .ok (.ifCond .eq 7, 3) := dk_153 0 7 (dk_at dksX3_nearest_5 11 rfl rfl)
theorem dX3_nearest_131 : decode cX3_nearest 131 = .ok (.lconst 1, 1) := dk_10 (dk_at dksX3_nearest_5 14 rfl rfl)
theorem dX3_nearest_132 : decode cX3_nearest 132 = .ok (.goto 4, 3) := dk_167 0 4 (dk_at dksX3_nearest_5 15 rfl rfl)
theorem dX3_nearest_135 : decode cX3_nearest 135 = .ok (.lconst 0, 1) := dk_9 (dk_at dksX3_nearest_5 18 rfl rfl)
theorem dX3_nearest_136 : decode cX3_nearest 136 = .ok (.ladd, 1) := dk_97 (dk_at dksX3_nearest_5 19 rfl rfl)
theorem dX3_nearest_137 : decode cX3_nearest 137 = .ok (.lstore 6, 2) := dk_55 6 (dk_at dksX3_nearest_5 20 rfl rfl)
theorem dX3_nearest_139 : decode cX3_nearest 139 = .ok (.iinc 8 (-1), 3) := dk_132 8 255 (dk_at dksX3_nearest_6 0 rfl rfl)
theorem dX3_nearest_142 : decode cX3_nearest 142 = .ok (.goto (-35), 3) := dk_167 255 221 (dk_at dksX3_nearest_6 3 rfl rfl)
theorem dX3_nearest_145 : decode cX3_nearest 145 = .ok (.iload 5, 2) := dk_21 5 (dk_at dksX3_nearest_6 6 rfl rfl)
theorem dX3_nearest_147 : decode cX3_nearest 147 = .ok (.ifCond .le 20, 3) := dk_158 0 20 (dk_at dksX3_nearest_6 8 rfl rfl)
theorem dX3_nearest_150 : decode cX3_nearest 150 = .ok (.aload_n 0, 1) := dk_42 (dk_at dksX3_nearest_6 11 rfl rfl)
theorem dX3_nearest_151 : decode cX3_nearest 151 = .ok (.bipush 23, 2) := dk_16 23 (dk_at dksX3_nearest_6 12 rfl rfl)
theorem dX3_nearest_153 : decode cX3_nearest 153 = .ok (.iload 5, 2) := dk_21 5 (dk_at dksX3_nearest_6 14 rfl rfl)
theorem dX3_nearest_155 : decode cX3_nearest 155 = .ok (.iconst 1, 1) := dk_4 (dk_at dksX3_nearest_6 16 rfl rfl)
theorem dX3_nearest_156 : decode cX3_nearest 156 = .ok (.isub, 1) := dk_100 (dk_at dksX3_nearest_6 17 rfl rfl)
theorem dX3_nearest_157 : decode cX3_nearest 157 = .ok (.invokevirtual 142, 3) := dk_182 0 142 (dk_at dksX3_nearest_6 18 rfl rfl)
theorem dX3_nearest_160 : decode cX3_nearest 160 = .ok (.ifCond .eq 7, 3) := dk_153 0 7 (dk_at dksX3_nearest_6 21 rfl rfl)
theorem dX3_nearest_163 : decode cX3_nearest 163 = .ok (.iconst 1, 1) := dk_4 (dk_at dksX3_nearest_7 0 rfl rfl)
theorem dX3_nearest_164 : decode cX3_nearest 164 = .ok (.goto 4, 3) := dk_167 0 4 (dk_at dksX3_nearest_7 1 rfl rfl)
theorem dX3_nearest_167 : decode cX3_nearest 167 = .ok (.iconst 0, 1) := dk_3 (dk_at dksX3_nearest_7 4 rfl rfl)
theorem dX3_nearest_168 : decode cX3_nearest 168 = .ok (.istore 8, 2) := dk_54 8 (dk_at dksX3_nearest_7 5 rfl rfl)
theorem dX3_nearest_170 : decode cX3_nearest 170 = .ok (.iconst 0, 1) := dk_3 (dk_at dksX3_nearest_7 7 rfl rfl)
theorem dX3_nearest_171 : decode cX3_nearest 171 = .ok (.istore 9, 2) := dk_54 9 (dk_at dksX3_nearest_7 8 rfl rfl)
theorem dX3_nearest_173 : decode cX3_nearest 173 = .ok (.iconst 0, 1) := dk_3 (dk_at dksX3_nearest_7 10 rfl rfl)
theorem dX3_nearest_174 : decode cX3_nearest 174 = .ok (.istore 10, 2) := dk_54 10 (dk_at dksX3_nearest_7 11 rfl rfl)
theorem dX3_nearest_176 : decode cX3_nearest 176 = .ok (.iload 10, 2) := dk_21 10 (dk_at dksX3_nearest_7 13 rfl rfl)
theorem dX3_nearest_178 : decode cX3_nearest 178 = .ok (.iload 5, 2) := dk_21 5 (dk_at dksX3_nearest_7 15 rfl rfl)
theorem dX3_nearest_180 : decode cX3_nearest 180 = .ok (.iconst 1, 1) := dk_4 (dk_at dksX3_nearest_7 17 rfl rfl)
theorem dX3_nearest_181 : decode cX3_nearest 181 = .ok (.isub, 1) := dk_100 (dk_at dksX3_nearest_7 18 rfl rfl)
theorem dX3_nearest_182 : decode cX3_nearest 182 = .ok (.if_icmp .ge 32, 3) := dk_162 0 32 (dk_at dksX3_nearest_7 19 rfl rfl)
theorem dX3_nearest_185 : decode cX3_nearest 185 = .ok (.iload 9, 2) := dk_21 9 (dk_at dksX3_nearest_7 22 rfl rfl)
theorem dX3_nearest_187 : decode cX3_nearest 187 = .ok (.ifCond .ne 14, 3) := dk_154 0 14 (dk_at dksX3_nearest_8 0 rfl rfl)
theorem dX3_nearest_190 : decode cX3_nearest 190 = .ok (.aload_n 0, 1) := dk_42 (dk_at dksX3_nearest_8 3 rfl rfl)
theorem dX3_nearest_191 : decode cX3_nearest 191 = .ok (.bipush 23, 2) := dk_16 23 (dk_at dksX3_nearest_8 4 rfl rfl)
theorem dX3_nearest_193 : decode cX3_nearest 193 = .ok (.iload 10, 2) := dk_21 10 (dk_at dksX3_nearest_8 6 rfl rfl)
theorem dX3_nearest_195 : decode cX3_nearest 195 = .ok (.invokevirtual 142, 3) := dk_182 0 142 (dk_at dksX3_nearest_8 8 rfl rfl)
theorem dX3_nearest_198 : decode cX3_nearest 198 = .ok (.ifCond .eq 7, 3) := dk_153 0 7 (dk_at dksX3_nearest_8 11 rfl rfl)
theorem dX3_nearest_201 : decode cX3_nearest 201 = .ok (.iconst 1, 1) := dk_4 (dk_at dksX3_nearest_8 14 rfl rfl)
theorem dX3_nearest_202 : decode cX3_nearest 202 = .ok (.goto 4, 3) := dk_167 0 4 (dk_at dksX3_nearest_8 15 rfl rfl)
theorem dX3_nearest_205 : decode cX3_nearest 205 = .ok (.iconst 0, 1) := dk_3 (dk_at dksX3_nearest_8 18 rfl rfl)
theorem dX3_nearest_206 : decode cX3_nearest 206 = .ok (.istore 9, 2) := dk_54 9 (dk_at dksX3_nearest_8 19 rfl rfl)
theorem dX3_nearest_208 : decode cX3_nearest 208 = .ok (.iinc 10 1, 3) := dk_132 10 1 (dk_at dksX3_nearest_8 21 rfl rfl)
theorem dX3_nearest_211 : decode cX3_nearest 211 = .ok (.goto (-35), 3) := dk_167 255 221 (dk_at dksX3_nearest_9 0 rfl rfl)
theorem dX3_nearest_214 : decode cX3_nearest 214 = .ok (.iload 8, 2) := dk_21 8 (dk_at dksX3_nearest_9 3 rfl rfl)
theorem dX3_nearest_216 : decode cX3_nearest 216 = .ok (.ifCond .eq 25, 3) := dk_153 0 25 (dk_at dksX3_nearest_9 5 rfl rfl)
theorem dX3_nearest_219 : decode cX3_nearest 219 = .ok (.iload 9, 2) := dk_21 9 (dk_at dksX3_nearest_9 8 rfl rfl)
theorem dX3_nearest_221 : decode cX3_nearest 221 = .ok (.ifCond .ne 14, 3) := dk_154 0 14 (dk_at dksX3_nearest_9 10 rfl rfl)
theorem dX3_nearest_224 : decode cX3_nearest 224 = .ok (.lload 6, 2) := dk_22 6 (dk_at dksX3_nearest_9 13 rfl rfl)
theorem dX3_nearest_226 : decode cX3_nearest 226 = .ok (.ldc2_w 146, 3) := dk_20 0 146 (dk_at dksX3_nearest_9 15 rfl rfl)
theorem dX3_nearest_229 : decode cX3_nearest 229 = .ok (.lrem, 1) := dk_113 (dk_at dksX3_nearest_9 18 rfl rfl)
theorem dX3_nearest_230 : decode cX3_nearest 230 = .ok (.lconst 1, 1) := dk_10 (dk_at dksX3_nearest_9 19 rfl rfl)
theorem dX3_nearest_231 : decode cX3_nearest 231 = .ok (.lcmp, 1) := dk_148 (dk_at dksX3_nearest_9 20 rfl rfl)
theorem dX3_nearest_232 : decode cX3_nearest 232 = .ok (.ifCond .ne 9, 3) := dk_154 0 9 (dk_at dksX3_nearest_9 21 rfl rfl)
theorem dX3_nearest_235 : decode cX3_nearest 235 = .ok (.lload 6, 2) := dk_22 6 (dk_at dksX3_nearest_10 0 rfl rfl)
theorem dX3_nearest_237 : decode cX3_nearest 237 = .ok (.lconst 1, 1) := dk_10 (dk_at dksX3_nearest_10 2 rfl rfl)
theorem dX3_nearest_238 : decode cX3_nearest 238 = .ok (.ladd, 1) := dk_97 (dk_at dksX3_nearest_10 3 rfl rfl)
theorem dX3_nearest_239 : decode cX3_nearest 239 = .ok (.lstore 6, 2) := dk_55 6 (dk_at dksX3_nearest_10 4 rfl rfl)
theorem dX3_nearest_241 : decode cX3_nearest 241 = .ok (.iload_n 3, 1) := dk_29 (dk_at dksX3_nearest_10 6 rfl rfl)
theorem dX3_nearest_242 : decode cX3_nearest 242 = .ok (.i2d, 1) := dk_135 (dk_at dksX3_nearest_10 7 rfl rfl)
theorem dX3_nearest_243 : decode cX3_nearest 243 = .ok (.lload 6, 2) := dk_22 6 (dk_at dksX3_nearest_10 8 rfl rfl)
theorem dX3_nearest_245 : decode cX3_nearest 245 = .ok (.iload 5, 2) := dk_21 5 (dk_at dksX3_nearest_10 10 rfl rfl)
theorem dX3_nearest_247 : decode cX3_nearest 247 = .ok (.invokestatic 148, 3) := dk_184 0 148 (dk_at dksX3_nearest_10 12 rfl rfl)
theorem dX3_nearest_250 : decode cX3_nearest 250 = .ok (.dmul, 1) := dk_107 (dk_at dksX3_nearest_10 15 rfl rfl)
theorem dX3_nearest_251 : decode cX3_nearest 251 = .ok (.dreturn, 1) := dk_175 (dk_at dksX3_nearest_10 16 rfl rfl)
abbrev cX3_signOf : ByteArray := prog_27_method_10_code
def yX3_signOf : MethodName := ⟨RX3, "signOf", "(I)I"⟩
def dkwX3_signOf_2 : List UInt8 := [167, 255, 231, 3, 172]
abbrev dktX3_signOf_2 : List UInt8 := dkwX3_signOf_2 ++ []
def dkwX3_signOf_1 : List UInt8 := [162, 0, 25, 42, 180, 0, 79, 16, 44, 27, 104, 28, 96, 46, 153, 0, 5, 4, 172, 132, 2, 1]
abbrev dktX3_signOf_1 : List UInt8 := dkwX3_signOf_1 ++ dktX3_signOf_2
def dkwX3_signOf_0 : List UInt8 := [42, 180, 0, 79, 16, 44, 27, 104, 16, 44, 96, 4, 100, 46, 156, 0, 5, 2, 172, 3, 61, 28, 16, 44]
abbrev dktX3_signOf_0 : List UInt8 := dkwX3_signOf_0 ++ dktX3_signOf_1
theorem dksX3_signOf_0 : cX3_signOf.data.toList.drop 0 = dktX3_signOf_0 := by decide +kernel
theorem dksX3_signOf_1 : cX3_signOf.data.toList.drop 24 = dktX3_signOf_1 := dk_seg dksX3_signOf_0 24 rfl rfl
theorem dksX3_signOf_2 : cX3_signOf.data.toList.drop 46 = dktX3_signOf_2 := dk_seg dksX3_signOf_1 22 rfl rfl
theorem dX3_signOf_0 : decode cX3_signOf 0 = .ok (.aload_n 0, 1) := dk_42 (dk_at dksX3_signOf_0 0 rfl rfl)
theorem dX3_signOf_1 : decode cX3_signOf 1 = .ok (.getfield 79, 3) := dk_180 0 79 (dk_at dksX3_signOf_0 1 rfl rfl)
theorem dX3_signOf_4 : decode cX3_signOf 4 = .ok (.bipush 44, 2) := dk_16 44 (dk_at dksX3_signOf_0 4 rfl rfl)
theorem dX3_signOf_6 : decode cX3_signOf 6 = .ok (.iload_n 1, 1) := dk_27 (dk_at dksX3_signOf_0 6 rfl rfl)
theorem dX3_signOf_7 : decode cX3_signOf 7 = .ok (.imul, 1) := dk_104 (dk_at dksX3_signOf_0 7 rfl rfl)
theorem dX3_signOf_8 : decode cX3_signOf 8 = .ok (.bipush 44, 2) := dk_16 44 (dk_at dksX3_signOf_0 8 rfl rfl)
theorem dX3_signOf_10 : decode cX3_signOf 10 = .ok (.iadd, 1) := dk_96 (dk_at dksX3_signOf_0 10 rfl rfl)
theorem dX3_signOf_11 : decode cX3_signOf 11 = .ok (.iconst 1, 1) := dk_4 (dk_at dksX3_signOf_0 11 rfl rfl)
theorem dX3_signOf_12 : decode cX3_signOf 12 = .ok (.isub, 1) := dk_100 (dk_at dksX3_signOf_0 12 rfl rfl)
theorem dX3_signOf_13 : decode cX3_signOf 13 = .ok (.iaload, 1) := dk_46 (dk_at dksX3_signOf_0 13 rfl rfl)
theorem dX3_signOf_14 : decode cX3_signOf 14 = .ok (.ifCond .ge 5, 3) := dk_156 0 5 (dk_at dksX3_signOf_0 14 rfl rfl)
theorem dX3_signOf_17 : decode cX3_signOf 17 = .ok (.iconst (-1), 1) := dk_2 (dk_at dksX3_signOf_0 17 rfl rfl)
theorem dX3_signOf_18 : decode cX3_signOf 18 = .ok (.ireturn, 1) := dk_172 (dk_at dksX3_signOf_0 18 rfl rfl)
theorem dX3_signOf_19 : decode cX3_signOf 19 = .ok (.iconst 0, 1) := dk_3 (dk_at dksX3_signOf_0 19 rfl rfl)
theorem dX3_signOf_20 : decode cX3_signOf 20 = .ok (.istore_n 2, 1) := dk_61 (dk_at dksX3_signOf_0 20 rfl rfl)
theorem dX3_signOf_21 : decode cX3_signOf 21 = .ok (.iload_n 2, 1) := dk_28 (dk_at dksX3_signOf_0 21 rfl rfl)
theorem dX3_signOf_22 : decode cX3_signOf 22 = .ok (.bipush 44, 2) := dk_16 44 (dk_at dksX3_signOf_0 22 rfl rfl)
theorem dX3_signOf_24 : decode cX3_signOf 24 = .ok (.if_icmp .ge 25, 3) := dk_162 0 25 (dk_at dksX3_signOf_1 0 rfl rfl)
theorem dX3_signOf_27 : decode cX3_signOf 27 = .ok (.aload_n 0, 1) := dk_42 (dk_at dksX3_signOf_1 3 rfl rfl)
theorem dX3_signOf_28 : decode cX3_signOf 28 = .ok (.getfield 79, 3) := dk_180 0 79 (dk_at dksX3_signOf_1 4 rfl rfl)
theorem dX3_signOf_31 : decode cX3_signOf 31 = .ok (.bipush 44, 2) := dk_16 44 (dk_at dksX3_signOf_1 7 rfl rfl)
theorem dX3_signOf_33 : decode cX3_signOf 33 = .ok (.iload_n 1, 1) := dk_27 (dk_at dksX3_signOf_1 9 rfl rfl)
theorem dX3_signOf_34 : decode cX3_signOf 34 = .ok (.imul, 1) := dk_104 (dk_at dksX3_signOf_1 10 rfl rfl)
theorem dX3_signOf_35 : decode cX3_signOf 35 = .ok (.iload_n 2, 1) := dk_28 (dk_at dksX3_signOf_1 11 rfl rfl)
theorem dX3_signOf_36 : decode cX3_signOf 36 = .ok (.iadd, 1) := dk_96 (dk_at dksX3_signOf_1 12 rfl rfl)
theorem dX3_signOf_37 : decode cX3_signOf 37 = .ok (.iaload, 1) := dk_46 (dk_at dksX3_signOf_1 13 rfl rfl)
theorem dX3_signOf_38 : decode cX3_signOf 38 = .ok (.ifCond .eq 5, 3) := dk_153 0 5 (dk_at dksX3_signOf_1 14 rfl rfl)
theorem dX3_signOf_41 : decode cX3_signOf 41 = .ok (.iconst 1, 1) := dk_4 (dk_at dksX3_signOf_1 17 rfl rfl)
theorem dX3_signOf_42 : decode cX3_signOf 42 = .ok (.ireturn, 1) := dk_172 (dk_at dksX3_signOf_1 18 rfl rfl)
theorem dX3_signOf_43 : decode cX3_signOf 43 = .ok (.iinc 2 1, 3) := dk_132 2 1 (dk_at dksX3_signOf_1 19 rfl rfl)
theorem dX3_signOf_46 : decode cX3_signOf 46 = .ok (.goto (-25), 3) := dk_167 255 231 (dk_at dksX3_signOf_2 0 rfl rfl)
theorem dX3_signOf_49 : decode cX3_signOf 49 = .ok (.iconst 0, 1) := dk_3 (dk_at dksX3_signOf_2 3 rfl rfl)
theorem dX3_signOf_50 : decode cX3_signOf 50 = .ok (.ireturn, 1) := dk_172 (dk_at dksX3_signOf_2 4 rfl rfl)
abbrev cX3_copyBig : ByteArray := prog_27_method_8_code
def yX3_copyBig : MethodName := ⟨RX3, "copyBig", "(II)V"⟩
def dkwX3_copyBig_1 : List UInt8 := [28, 104, 29, 96, 46, 79, 132, 3, 1, 167, 255, 225, 177]
abbrev dktX3_copyBig_1 : List UInt8 := dkwX3_copyBig_1 ++ []
def dkwX3_copyBig_0 : List UInt8 := [3, 62, 29, 16, 44, 162, 0, 31, 42, 180, 0, 79, 16, 44, 27, 104, 29, 96, 42, 180, 0, 79, 16, 44]
abbrev dktX3_copyBig_0 : List UInt8 := dkwX3_copyBig_0 ++ dktX3_copyBig_1
theorem dksX3_copyBig_0 : cX3_copyBig.data.toList.drop 0 = dktX3_copyBig_0 := by decide +kernel
theorem dksX3_copyBig_1 : cX3_copyBig.data.toList.drop 24 = dktX3_copyBig_1 := dk_seg dksX3_copyBig_0 24 rfl rfl
theorem dX3_copyBig_0 : decode cX3_copyBig 0 = .ok (.iconst 0, 1) := dk_3 (dk_at dksX3_copyBig_0 0 rfl rfl)
theorem dX3_copyBig_1 : decode cX3_copyBig 1 = .ok (.istore_n 3, 1) := dk_62 (dk_at dksX3_copyBig_0 1 rfl rfl)
theorem dX3_copyBig_2 : decode cX3_copyBig 2 = .ok (.iload_n 3, 1) := dk_29 (dk_at dksX3_copyBig_0 2 rfl rfl)
theorem dX3_copyBig_3 : decode cX3_copyBig 3 = .ok (.bipush 44, 2) := dk_16 44 (dk_at dksX3_copyBig_0 3 rfl rfl)
theorem dX3_copyBig_5 : decode cX3_copyBig 5 = .ok (.if_icmp .ge 31, 3) := dk_162 0 31 (dk_at dksX3_copyBig_0 5 rfl rfl)
theorem dX3_copyBig_8 : decode cX3_copyBig 8 = .ok (.aload_n 0, 1) := dk_42 (dk_at dksX3_copyBig_0 8 rfl rfl)
theorem dX3_copyBig_9 : decode cX3_copyBig 9 = .ok (.getfield 79, 3) := dk_180 0 79 (dk_at dksX3_copyBig_0 9 rfl rfl)
theorem dX3_copyBig_12 : decode cX3_copyBig 12 = .ok (.bipush 44, 2) := dk_16 44 (dk_at dksX3_copyBig_0 12 rfl rfl)
theorem dX3_copyBig_14 : decode cX3_copyBig 14 = .ok (.iload_n 1, 1) := dk_27 (dk_at dksX3_copyBig_0 14 rfl rfl)
theorem dX3_copyBig_15 : decode cX3_copyBig 15 = .ok (.imul, 1) := dk_104 (dk_at dksX3_copyBig_0 15 rfl rfl)
theorem dX3_copyBig_16 : decode cX3_copyBig 16 = .ok (.iload_n 3, 1) := dk_29 (dk_at dksX3_copyBig_0 16 rfl rfl)
theorem dX3_copyBig_17 : decode cX3_copyBig 17 = .ok (.iadd, 1) := dk_96 (dk_at dksX3_copyBig_0 17 rfl rfl)
theorem dX3_copyBig_18 : decode cX3_copyBig 18 = .ok (.aload_n 0, 1) := dk_42 (dk_at dksX3_copyBig_0 18 rfl rfl)
theorem dX3_copyBig_19 : decode cX3_copyBig 19 = .ok (.getfield 79, 3) := dk_180 0 79 (dk_at dksX3_copyBig_0 19 rfl rfl)
theorem dX3_copyBig_22 : decode cX3_copyBig 22 = .ok (.bipush 44, 2) := dk_16 44 (dk_at dksX3_copyBig_0 22 rfl rfl)
theorem dX3_copyBig_24 : decode cX3_copyBig 24 = .ok (.iload_n 2, 1) := dk_28 (dk_at dksX3_copyBig_1 0 rfl rfl)
theorem dX3_copyBig_25 : decode cX3_copyBig 25 = .ok (.imul, 1) := dk_104 (dk_at dksX3_copyBig_1 1 rfl rfl)
theorem dX3_copyBig_26 : decode cX3_copyBig 26 = .ok (.iload_n 3, 1) := dk_29 (dk_at dksX3_copyBig_1 2 rfl rfl)
theorem dX3_copyBig_27 : decode cX3_copyBig 27 = .ok (.iadd, 1) := dk_96 (dk_at dksX3_copyBig_1 3 rfl rfl)
theorem dX3_copyBig_28 : decode cX3_copyBig 28 = .ok (.iaload, 1) := dk_46 (dk_at dksX3_copyBig_1 4 rfl rfl)
theorem dX3_copyBig_29 : decode cX3_copyBig 29 = .ok (.iastore, 1) := dk_79 (dk_at dksX3_copyBig_1 5 rfl rfl)
theorem dX3_copyBig_30 : decode cX3_copyBig 30 = .ok (.iinc 3 1, 3) := dk_132 3 1 (dk_at dksX3_copyBig_1 6 rfl rfl)
theorem dX3_copyBig_33 : decode cX3_copyBig 33 = .ok (.goto (-31), 3) := dk_167 255 225 (dk_at dksX3_copyBig_1 9 rfl rfl)
theorem dX3_copyBig_36 : decode cX3_copyBig 36 = .ok (.return_, 1) := dk_177 (dk_at dksX3_copyBig_1 12 rfl rfl)
abbrev cX3_hasBit : ByteArray := prog_27_method_16_code
def yX3_hasBit : MethodName := ⟨RX3, "hasBit", "(II)Z"⟩
def dkwX3_hasBit_1 : List UInt8 := [160, 0, 7, 4, 167, 0, 4, 3, 172]
abbrev dktX3_hasBit_1 : List UInt8 := dkwX3_hasBit_1 ++ []
def dkwX3_hasBit_0 : List UInt8 := [42, 180, 0, 79, 16, 44, 27, 104, 28, 16, 32, 108, 96, 46, 28, 16, 32, 112, 122, 4, 126, 4]
abbrev dktX3_hasBit_0 : List UInt8 := dkwX3_hasBit_0 ++ dktX3_hasBit_1
theorem dksX3_hasBit_0 : cX3_hasBit.data.toList.drop 0 = dktX3_hasBit_0 := by decide +kernel
theorem dksX3_hasBit_1 : cX3_hasBit.data.toList.drop 22 = dktX3_hasBit_1 := dk_seg dksX3_hasBit_0 22 rfl rfl
theorem dX3_hasBit_0 : decode cX3_hasBit 0 = .ok (.aload_n 0, 1) := dk_42 (dk_at dksX3_hasBit_0 0 rfl rfl)
theorem dX3_hasBit_1 : decode cX3_hasBit 1 = .ok (.getfield 79, 3) := dk_180 0 79 (dk_at dksX3_hasBit_0 1 rfl rfl)
theorem dX3_hasBit_4 : decode cX3_hasBit 4 = .ok (.bipush 44, 2) := dk_16 44 (dk_at dksX3_hasBit_0 4 rfl rfl)
theorem dX3_hasBit_6 : decode cX3_hasBit 6 = .ok (.iload_n 1, 1) := dk_27 (dk_at dksX3_hasBit_0 6 rfl rfl)
theorem dX3_hasBit_7 : decode cX3_hasBit 7 = .ok (.imul, 1) := dk_104 (dk_at dksX3_hasBit_0 7 rfl rfl)
theorem dX3_hasBit_8 : decode cX3_hasBit 8 = .ok (.iload_n 2, 1) := dk_28 (dk_at dksX3_hasBit_0 8 rfl rfl)
theorem dX3_hasBit_9 : decode cX3_hasBit 9 = .ok (.bipush 32, 2) := dk_16 32 (dk_at dksX3_hasBit_0 9 rfl rfl)
theorem dX3_hasBit_11 : decode cX3_hasBit 11 = .ok (.idiv, 1) := dk_108 (dk_at dksX3_hasBit_0 11 rfl rfl)
theorem dX3_hasBit_12 : decode cX3_hasBit 12 = .ok (.iadd, 1) := dk_96 (dk_at dksX3_hasBit_0 12 rfl rfl)
theorem dX3_hasBit_13 : decode cX3_hasBit 13 = .ok (.iaload, 1) := dk_46 (dk_at dksX3_hasBit_0 13 rfl rfl)
theorem dX3_hasBit_14 : decode cX3_hasBit 14 = .ok (.iload_n 2, 1) := dk_28 (dk_at dksX3_hasBit_0 14 rfl rfl)
theorem dX3_hasBit_15 : decode cX3_hasBit 15 = .ok (.bipush 32, 2) := dk_16 32 (dk_at dksX3_hasBit_0 15 rfl rfl)
theorem dX3_hasBit_17 : decode cX3_hasBit 17 = .ok (.irem, 1) := dk_112 (dk_at dksX3_hasBit_0 17 rfl rfl)
theorem dX3_hasBit_18 : decode cX3_hasBit 18 = .ok (.ishr, 1) := dk_122 (dk_at dksX3_hasBit_0 18 rfl rfl)
theorem dX3_hasBit_19 : decode cX3_hasBit 19 = .ok (.iconst 1, 1) := dk_4 (dk_at dksX3_hasBit_0 19 rfl rfl)
theorem dX3_hasBit_20 : decode cX3_hasBit 20 = .ok (.iand, 1) := dk_126 (dk_at dksX3_hasBit_0 20 rfl rfl)
theorem dX3_hasBit_21 : decode cX3_hasBit 21 = .ok (.iconst 1, 1) := dk_4 (dk_at dksX3_hasBit_0 21 rfl rfl)
theorem dX3_hasBit_22 : decode cX3_hasBit 22 = .ok (.if_icmp .ne 7, 3) := dk_160 0 7 (dk_at dksX3_hasBit_1 0 rfl rfl)
theorem dX3_hasBit_25 : decode cX3_hasBit 25 = .ok (.iconst 1, 1) := dk_4 (dk_at dksX3_hasBit_1 3 rfl rfl)
theorem dX3_hasBit_26 : decode cX3_hasBit 26 = .ok (.goto 4, 3) := dk_167 0 4 (dk_at dksX3_hasBit_1 4 rfl rfl)
theorem dX3_hasBit_29 : decode cX3_hasBit 29 = .ok (.iconst 0, 1) := dk_3 (dk_at dksX3_hasBit_1 7 rfl rfl)
theorem dX3_hasBit_30 : decode cX3_hasBit 30 = .ok (.ireturn, 1) := dk_172 (dk_at dksX3_hasBit_1 8 rfl rfl)
abbrev cX3_scaled : ByteArray := prog_27_method_18_code
def yX3_scaled : MethodName := ⟨RX3, "scaled", "(JI)D"⟩
def dkwX3_scaled_3 : List UInt8 := [167, 0, 20, 21, 5, 133, 10, 97, 16, 52, 121, 33, 20, 0, 123, 101, 97, 184, 0, 154, 175]
abbrev dktX3_scaled_3 : List UInt8 := dkwX3_scaled_3 ++ []
def dkwX3_scaled_2 : List UInt8 := [33, 20, 0, 146, 105, 66, 132, 5, 255, 167, 255, 234, 33, 20, 0, 123, 148, 156, 0, 10, 33, 184, 0, 154]
abbrev dktX3_scaled_2 : List UInt8 := dkwX3_scaled_2 ++ dktX3_scaled_3
def dkwX3_scaled_1 : List UInt8 := [20, 0, 146, 109, 66, 132, 5, 1, 167, 255, 239, 33, 20, 0, 123, 148, 156, 0, 20, 21, 5, 158, 0, 15]
abbrev dktX3_scaled_1 : List UInt8 := dkwX3_scaled_1 ++ dktX3_scaled_2
def dkwX3_scaled_0 : List UInt8 := [30, 9, 148, 154, 0, 5, 14, 175, 30, 66, 28, 54, 5, 33, 20, 0, 152, 148, 155, 0, 15, 33]
abbrev dktX3_scaled_0 : List UInt8 := dkwX3_scaled_0 ++ dktX3_scaled_1
theorem dksX3_scaled_0 : cX3_scaled.data.toList.drop 0 = dktX3_scaled_0 := by decide +kernel
theorem dksX3_scaled_1 : cX3_scaled.data.toList.drop 22 = dktX3_scaled_1 := dk_seg dksX3_scaled_0 22 rfl rfl
theorem dksX3_scaled_2 : cX3_scaled.data.toList.drop 46 = dktX3_scaled_2 := dk_seg dksX3_scaled_1 24 rfl rfl
theorem dksX3_scaled_3 : cX3_scaled.data.toList.drop 70 = dktX3_scaled_3 := dk_seg dksX3_scaled_2 24 rfl rfl
theorem dX3_scaled_0 : decode cX3_scaled 0 = .ok (.lload_n 0, 1) := dk_30 (dk_at dksX3_scaled_0 0 rfl rfl)
theorem dX3_scaled_1 : decode cX3_scaled 1 = .ok (.lconst 0, 1) := dk_9 (dk_at dksX3_scaled_0 1 rfl rfl)
theorem dX3_scaled_2 : decode cX3_scaled 2 = .ok (.lcmp, 1) := dk_148 (dk_at dksX3_scaled_0 2 rfl rfl)
theorem dX3_scaled_3 : decode cX3_scaled 3 = .ok (.ifCond .ne 5, 3) := dk_154 0 5 (dk_at dksX3_scaled_0 3 rfl rfl)
theorem dX3_scaled_6 : decode cX3_scaled 6 = .ok (.dconst 0, 1) := dk_14 (dk_at dksX3_scaled_0 6 rfl rfl)
theorem dX3_scaled_7 : decode cX3_scaled 7 = .ok (.dreturn, 1) := dk_175 (dk_at dksX3_scaled_0 7 rfl rfl)
theorem dX3_scaled_8 : decode cX3_scaled 8 = .ok (.lload_n 0, 1) := dk_30 (dk_at dksX3_scaled_0 8 rfl rfl)
theorem dX3_scaled_9 : decode cX3_scaled 9 = .ok (.lstore_n 3, 1) := dk_66 (dk_at dksX3_scaled_0 9 rfl rfl)
theorem dX3_scaled_10 : decode cX3_scaled 10 = .ok (.iload_n 2, 1) := dk_28 (dk_at dksX3_scaled_0 10 rfl rfl)
theorem dX3_scaled_11 : decode cX3_scaled 11 = .ok (.istore 5, 2) := dk_54 5 (dk_at dksX3_scaled_0 11 rfl rfl)
theorem dX3_scaled_13 : decode cX3_scaled 13 = .ok (.lload_n 3, 1) := dk_33 (dk_at dksX3_scaled_0 13 rfl rfl)
theorem dX3_scaled_14 : decode cX3_scaled 14 = .ok (.ldc2_w 152, 3) := dk_20 0 152 (dk_at dksX3_scaled_0 14 rfl rfl)
theorem dX3_scaled_17 : decode cX3_scaled 17 = .ok (.lcmp, 1) := dk_148 (dk_at dksX3_scaled_0 17 rfl rfl)
theorem dX3_scaled_18 : decode cX3_scaled 18 = .ok (.ifCond .lt 15, 3) := dk_155 0 15 (dk_at dksX3_scaled_0 18 rfl rfl)
theorem dX3_scaled_21 : decode cX3_scaled 21 = .ok (.lload_n 3, 1) := dk_33 (dk_at dksX3_scaled_0 21 rfl rfl)
theorem dX3_scaled_22 : decode cX3_scaled 22 = .ok (.ldc2_w 146, 3) := dk_20 0 146 (dk_at dksX3_scaled_1 0 rfl rfl)
theorem dX3_scaled_25 : decode cX3_scaled 25 = .ok (.ldiv, 1) := dk_109 (dk_at dksX3_scaled_1 3 rfl rfl)
theorem dX3_scaled_26 : decode cX3_scaled 26 = .ok (.lstore_n 3, 1) := dk_66 (dk_at dksX3_scaled_1 4 rfl rfl)
theorem dX3_scaled_27 : decode cX3_scaled 27 = .ok (.iinc 5 1, 3) := dk_132 5 1 (dk_at dksX3_scaled_1 5 rfl rfl)
theorem dX3_scaled_30 : decode cX3_scaled 30 = .ok (.goto (-17), 3) := dk_167 255 239 (dk_at dksX3_scaled_1 8 rfl rfl)
theorem dX3_scaled_33 : decode cX3_scaled 33 = .ok (.lload_n 3, 1) := dk_33 (dk_at dksX3_scaled_1 11 rfl rfl)
theorem dX3_scaled_34 : decode cX3_scaled 34 = .ok (.ldc2_w 123, 3) := dk_20 0 123 (dk_at dksX3_scaled_1 12 rfl rfl)
theorem dX3_scaled_37 : decode cX3_scaled 37 = .ok (.lcmp, 1) := dk_148 (dk_at dksX3_scaled_1 15 rfl rfl)
theorem dX3_scaled_38 : decode cX3_scaled 38 = .ok (.ifCond .ge 20, 3) := dk_156 0 20 (dk_at dksX3_scaled_1 16 rfl rfl)
theorem dX3_scaled_41 : decode cX3_scaled 41 = .ok (.iload 5, 2) := dk_21 5 (dk_at dksX3_scaled_1 19 rfl rfl)
theorem dX3_scaled_43 : decode cX3_scaled 43 = .ok (.ifCond .le 15, 3) := dk_158 0 15 (dk_at dksX3_scaled_1 21 rfl rfl)
theorem dX3_scaled_46 : decode cX3_scaled 46 = .ok (.lload_n 3, 1) := dk_33 (dk_at dksX3_scaled_2 0 rfl rfl)
theorem dX3_scaled_47 : decode cX3_scaled 47 = .ok (.ldc2_w 146, 3) := dk_20 0 146 (dk_at dksX3_scaled_2 1 rfl rfl)
theorem dX3_scaled_50 : decode cX3_scaled 50 = .ok (.lmul, 1) := dk_105 (dk_at dksX3_scaled_2 4 rfl rfl)
theorem dX3_scaled_51 : decode cX3_scaled 51 = .ok (.lstore_n 3, 1) := dk_66 (dk_at dksX3_scaled_2 5 rfl rfl)
theorem dX3_scaled_52 : decode cX3_scaled 52 = .ok (.iinc 5 (-1), 3) := dk_132 5 255 (dk_at dksX3_scaled_2 6 rfl rfl)
theorem dX3_scaled_55 : decode cX3_scaled 55 = .ok (.goto (-22), 3) := dk_167 255 234 (dk_at dksX3_scaled_2 9 rfl rfl)
theorem dX3_scaled_58 : decode cX3_scaled 58 = .ok (.lload_n 3, 1) := dk_33 (dk_at dksX3_scaled_2 12 rfl rfl)
theorem dX3_scaled_59 : decode cX3_scaled 59 = .ok (.ldc2_w 123, 3) := dk_20 0 123 (dk_at dksX3_scaled_2 13 rfl rfl)
theorem dX3_scaled_62 : decode cX3_scaled 62 = .ok (.lcmp, 1) := dk_148 (dk_at dksX3_scaled_2 16 rfl rfl)
theorem dX3_scaled_63 : decode cX3_scaled 63 = .ok (.ifCond .ge 10, 3) := dk_156 0 10 (dk_at dksX3_scaled_2 17 rfl rfl)
theorem dX3_scaled_66 : decode cX3_scaled 66 = .ok (.lload_n 3, 1) := dk_33 (dk_at dksX3_scaled_2 20 rfl rfl)
theorem dX3_scaled_67 : decode cX3_scaled 67 = .ok (.invokestatic 154, 3) := dk_184 0 154 (dk_at dksX3_scaled_2 21 rfl rfl)
theorem dX3_scaled_70 : decode cX3_scaled 70 = .ok (.goto 20, 3) := dk_167 0 20 (dk_at dksX3_scaled_3 0 rfl rfl)
theorem dX3_scaled_73 : decode cX3_scaled 73 = .ok (.iload 5, 2) := dk_21 5 (dk_at dksX3_scaled_3 3 rfl rfl)
theorem dX3_scaled_75 : decode cX3_scaled 75 = .ok (.i2l, 1) := dk_133 (dk_at dksX3_scaled_3 5 rfl rfl)
theorem dX3_scaled_76 : decode cX3_scaled 76 = .ok (.lconst 1, 1) := dk_10 (dk_at dksX3_scaled_3 6 rfl rfl)
theorem dX3_scaled_77 : decode cX3_scaled 77 = .ok (.ladd, 1) := dk_97 (dk_at dksX3_scaled_3 7 rfl rfl)
theorem dX3_scaled_78 : decode cX3_scaled 78 = .ok (.bipush 52, 2) := dk_16 52 (dk_at dksX3_scaled_3 8 rfl rfl)
theorem dX3_scaled_80 : decode cX3_scaled 80 = .ok (.lshl, 1) := dk_121 (dk_at dksX3_scaled_3 10 rfl rfl)
theorem dX3_scaled_81 : decode cX3_scaled 81 = .ok (.lload_n 3, 1) := dk_33 (dk_at dksX3_scaled_3 11 rfl rfl)
theorem dX3_scaled_82 : decode cX3_scaled 82 = .ok (.ldc2_w 123, 3) := dk_20 0 123 (dk_at dksX3_scaled_3 12 rfl rfl)
theorem dX3_scaled_85 : decode cX3_scaled 85 = .ok (.lsub, 1) := dk_101 (dk_at dksX3_scaled_3 15 rfl rfl)
theorem dX3_scaled_86 : decode cX3_scaled 86 = .ok (.ladd, 1) := dk_97 (dk_at dksX3_scaled_3 16 rfl rfl)
theorem dX3_scaled_87 : decode cX3_scaled 87 = .ok (.invokestatic 154, 3) := dk_184 0 154 (dk_at dksX3_scaled_3 17 rfl rfl)
theorem dX3_scaled_90 : decode cX3_scaled 90 = .ok (.dreturn, 1) := dk_175 (dk_at dksX3_scaled_3 20 rfl rfl)
abbrev cX3_story : ByteArray := prog_27_method_71_code
def yX3_story : MethodName := ⟨RX3, "story", "(II)I"⟩
def dkwX3_story_8 : List UInt8 := [172]
abbrev dktX3_story_8 : List UInt8 := dkwX3_story_8 ++ []
def dkwX3_story_7 : List UInt8 := [182, 0, 136, 54, 11, 21, 11, 154, 0, 7, 5, 167, 0, 13, 21, 11, 156, 0, 7, 6, 167, 0, 4, 7]
abbrev dktX3_story_7 : List UInt8 := dkwX3_story_7 ++ dktX3_story_8
def dkwX3_story_6 : List UInt8 := [14, 151, 158, 0, 12, 24, 5, 14, 152, 156, 0, 5, 4, 172, 42, 3, 27, 28, 182, 1, 118, 42, 3]
abbrev dktX3_story_6 : List UInt8 := dkwX3_story_6 ++ dktX3_story_7
def dkwX3_story_5 : List UInt8 := [184, 0, 173, 107, 24, 9, 152, 157, 0, 31, 41, 14, 152, 156, 0, 10, 24, 5, 14, 151, 157, 0, 16, 41]
abbrev dktX3_story_5 : List UInt8 := dkwX3_story_5 ++ dktX3_story_6
def dkwX3_story_4 : List UInt8 := [158, 0, 10, 41, 184, 0, 173, 167, 0, 8, 24, 5, 184, 0, 173, 57, 9, 20, 1, 125, 24, 7]
abbrev dktX3_story_4 : List UInt8 := dkwX3_story_4 ++ dktX3_story_5
def dkwX3_story_3 : List UInt8 := [24, 5, 151, 154, 0, 11, 41, 14, 151, 153, 0, 5, 3, 172, 41, 184, 0, 173, 24, 5, 184, 0, 173, 151]
abbrev dktX3_story_3 : List UInt8 := dkwX3_story_3 ++ dktX3_story_4
def dkwX3_story_2 : List UInt8 := [27, 104, 28, 96, 49, 57, 7, 24, 7, 41, 151, 154, 0, 10, 24, 5, 14, 151, 154, 0, 17, 24, 7]
abbrev dktX3_story_2 : List UInt8 := dkwX3_story_2 ++ dktX3_story_3
def dkwX3_story_1 : List UInt8 := [104, 28, 96, 49, 74, 42, 180, 0, 48, 16, 60, 27, 104, 28, 96, 49, 57, 5, 42, 180, 0, 51, 16, 60]
abbrev dktX3_story_1 : List UInt8 := dkwX3_story_1 ++ dktX3_story_2
def dkwX3_story_0 : List UInt8 := [42, 3, 181, 0, 94, 42, 27, 28, 182, 1, 113, 153, 0, 6, 16, 155, 172, 42, 180, 0, 45, 16, 60, 27]
abbrev dktX3_story_0 : List UInt8 := dkwX3_story_0 ++ dktX3_story_1
theorem dksX3_story_0 : cX3_story.data.toList.drop 0 = dktX3_story_0 := by decide +kernel
theorem dksX3_story_1 : cX3_story.data.toList.drop 24 = dktX3_story_1 := dk_seg dksX3_story_0 24 rfl rfl
theorem dksX3_story_2 : cX3_story.data.toList.drop 48 = dktX3_story_2 := dk_seg dksX3_story_1 24 rfl rfl
theorem dksX3_story_3 : cX3_story.data.toList.drop 71 = dktX3_story_3 := dk_seg dksX3_story_2 23 rfl rfl
theorem dksX3_story_4 : cX3_story.data.toList.drop 95 = dktX3_story_4 := dk_seg dksX3_story_3 24 rfl rfl
theorem dksX3_story_5 : cX3_story.data.toList.drop 117 = dktX3_story_5 := dk_seg dksX3_story_4 22 rfl rfl
theorem dksX3_story_6 : cX3_story.data.toList.drop 141 = dktX3_story_6 := dk_seg dksX3_story_5 24 rfl rfl
theorem dksX3_story_7 : cX3_story.data.toList.drop 164 = dktX3_story_7 := dk_seg dksX3_story_6 23 rfl rfl
theorem dksX3_story_8 : cX3_story.data.toList.drop 188 = dktX3_story_8 := dk_seg dksX3_story_7 24 rfl rfl
theorem dX3_story_0 : decode cX3_story 0 = .ok (.aload_n 0, 1) := dk_42 (dk_at dksX3_story_0 0 rfl rfl)
theorem dX3_story_1 : decode cX3_story 1 = .ok (.iconst 0, 1) := dk_3 (dk_at dksX3_story_0 1 rfl rfl)
theorem dX3_story_2 : decode cX3_story 2 = .ok (.putfield 94, 3) := dk_181 0 94 (dk_at dksX3_story_0 2 rfl rfl)
theorem dX3_story_5 : decode cX3_story 5 = .ok (.aload_n 0, 1) := dk_42 (dk_at dksX3_story_0 5 rfl rfl)
theorem dX3_story_6 : decode cX3_story 6 = .ok (.iload_n 1, 1) := dk_27 (dk_at dksX3_story_0 6 rfl rfl)
theorem dX3_story_7 : decode cX3_story 7 = .ok (.iload_n 2, 1) := dk_28 (dk_at dksX3_story_0 7 rfl rfl)
theorem dX3_story_8 : decode cX3_story 8 = .ok (.invokevirtual 369, 3) := dk_182 1 113 (dk_at dksX3_story_0 8 rfl rfl)
theorem dX3_story_11 : decode cX3_story 11 = .ok (.ifCond .eq 6, 3) := dk_153 0 6 (dk_at dksX3_story_0 11 rfl rfl)
theorem dX3_story_14 : decode cX3_story 14 = .ok (.bipush (-101), 2) := dk_16 155 (dk_at dksX3_story_0 14 rfl rfl)
theorem dX3_story_16 : decode cX3_story 16 = .ok (.ireturn, 1) := dk_172 (dk_at dksX3_story_0 16 rfl rfl)
theorem dX3_story_17 : decode cX3_story 17 = .ok (.aload_n 0, 1) := dk_42 (dk_at dksX3_story_0 17 rfl rfl)
theorem dX3_story_18 : decode cX3_story 18 = .ok (.getfield 45, 3) := dk_180 0 45 (dk_at dksX3_story_0 18 rfl rfl)
theorem dX3_story_21 : decode cX3_story 21 = .ok (.bipush 60, 2) := dk_16 60 (dk_at dksX3_story_0 21 rfl rfl)
theorem dX3_story_23 : decode cX3_story 23 = .ok (.iload_n 1, 1) := dk_27 (dk_at dksX3_story_0 23 rfl rfl)
theorem dX3_story_24 : decode cX3_story 24 = .ok (.imul, 1) := dk_104 (dk_at dksX3_story_1 0 rfl rfl)
theorem dX3_story_25 : decode cX3_story 25 = .ok (.iload_n 2, 1) := dk_28 (dk_at dksX3_story_1 1 rfl rfl)
theorem dX3_story_26 : decode cX3_story 26 = .ok (.iadd, 1) := dk_96 (dk_at dksX3_story_1 2 rfl rfl)
theorem dX3_story_27 : decode cX3_story 27 = .ok (.daload, 1) := dk_49 (dk_at dksX3_story_1 3 rfl rfl)
theorem dX3_story_28 : decode cX3_story 28 = .ok (.dstore_n 3, 1) := dk_74 (dk_at dksX3_story_1 4 rfl rfl)
theorem dX3_story_29 : decode cX3_story 29 = .ok (.aload_n 0, 1) := dk_42 (dk_at dksX3_story_1 5 rfl rfl)
theorem dX3_story_30 : decode cX3_story 30 = .ok (.getfield 48, 3) := dk_180 0 48 (dk_at dksX3_story_1 6 rfl rfl)
theorem dX3_story_33 : decode cX3_story 33 = .ok (.bipush 60, 2) := dk_16 60 (dk_at dksX3_story_1 9 rfl rfl)
theorem dX3_story_35 : decode cX3_story 35 = .ok (.iload_n 1, 1) := dk_27 (dk_at dksX3_story_1 11 rfl rfl)
theorem dX3_story_36 : decode cX3_story 36 = .ok (.imul, 1) := dk_104 (dk_at dksX3_story_1 12 rfl rfl)
theorem dX3_story_37 : decode cX3_story 37 = .ok (.iload_n 2, 1) := dk_28 (dk_at dksX3_story_1 13 rfl rfl)
theorem dX3_story_38 : decode cX3_story 38 = .ok (.iadd, 1) := dk_96 (dk_at dksX3_story_1 14 rfl rfl)
theorem dX3_story_39 : decode cX3_story 39 = .ok (.daload, 1) := dk_49 (dk_at dksX3_story_1 15 rfl rfl)
theorem dX3_story_40 : decode cX3_story 40 = .ok (.dstore 5, 2) := dk_57 5 (dk_at dksX3_story_1 16 rfl rfl)
theorem dX3_story_42 : decode cX3_story 42 = .ok (.aload_n 0, 1) := dk_42 (dk_at dksX3_story_1 18 rfl rfl)
theorem dX3_story_43 : decode cX3_story 43 = .ok (.getfield 51, 3) := dk_180 0 51 (dk_at dksX3_story_1 19 rfl rfl)
theorem dX3_story_46 : decode cX3_story 46 = .ok (.bipush 60, 2) := dk_16 60 (dk_at dksX3_story_1 22 rfl rfl)
theorem dX3_story_48 : decode cX3_story 48 = .ok (.iload_n 1, 1) := dk_27 (dk_at dksX3_story_2 0 rfl rfl)
theorem dX3_story_49 : decode cX3_story 49 = .ok (.imul, 1) := dk_104 (dk_at dksX3_story_2 1 rfl rfl)
theorem dX3_story_50 : decode cX3_story 50 = .ok (.iload_n 2, 1) := dk_28 (dk_at dksX3_story_2 2 rfl rfl)
theorem dX3_story_51 : decode cX3_story 51 = .ok (.iadd, 1) := dk_96 (dk_at dksX3_story_2 3 rfl rfl)
theorem dX3_story_52 : decode cX3_story 52 = .ok (.daload, 1) := dk_49 (dk_at dksX3_story_2 4 rfl rfl)
theorem dX3_story_53 : decode cX3_story 53 = .ok (.dstore 7, 2) := dk_57 7 (dk_at dksX3_story_2 5 rfl rfl)
theorem dX3_story_55 : decode cX3_story 55 = .ok (.dload 7, 2) := dk_24 7 (dk_at dksX3_story_2 7 rfl rfl)
theorem dX3_story_57 : decode cX3_story 57 = .ok (.dload_n 3, 1) := dk_41 (dk_at dksX3_story_2 9 rfl rfl)
theorem dX3_story_58 : decode cX3_story 58 = .ok (.dcmp .l, 1) := dk_151 (dk_at dksX3_story_2 10 rfl rfl)
theorem dX3_story_59 : decode cX3_story 59 = .ok (.ifCond .ne 10, 3) := dk_154 0 10 (dk_at dksX3_story_2 11 rfl rfl)
theorem dX3_story_62 : decode cX3_story 62 = .ok (.dload 5, 2) := dk_24 5 (dk_at dksX3_story_2 14 rfl rfl)
theorem dX3_story_64 : decode cX3_story 64 = .ok (.dconst 0, 1) := dk_14 (dk_at dksX3_story_2 16 rfl rfl)
theorem dX3_story_65 : decode cX3_story 65 = .ok (.dcmp .l, 1) := dk_151 (dk_at dksX3_story_2 17 rfl rfl)
theorem dX3_story_66 : decode cX3_story 66 = .ok (.ifCond .ne 17, 3) := dk_154 0 17 (dk_at dksX3_story_2 18 rfl rfl)
theorem dX3_story_69 : decode cX3_story 69 = .ok (.dload 7, 2) := dk_24 7 (dk_at dksX3_story_2 21 rfl rfl)
theorem dX3_story_71 : decode cX3_story 71 = .ok (.dload 5, 2) := dk_24 5 (dk_at dksX3_story_3 0 rfl rfl)
theorem dX3_story_73 : decode cX3_story 73 = .ok (.dcmp .l, 1) := dk_151 (dk_at dksX3_story_3 2 rfl rfl)
theorem dX3_story_74 : decode cX3_story 74 = .ok (.ifCond .ne 11, 3) := dk_154 0 11 (dk_at dksX3_story_3 3 rfl rfl)
theorem dX3_story_77 : decode cX3_story 77 = .ok (.dload_n 3, 1) := dk_41 (dk_at dksX3_story_3 6 rfl rfl)
theorem dX3_story_78 : decode cX3_story 78 = .ok (.dconst 0, 1) := dk_14 (dk_at dksX3_story_3 7 rfl rfl)
theorem dX3_story_79 : decode cX3_story 79 = .ok (.dcmp .l, 1) := dk_151 (dk_at dksX3_story_3 8 rfl rfl)
theorem dX3_story_80 : decode cX3_story 80 = .ok (.ifCond .eq 5, 3) := dk_153 0 5 (dk_at dksX3_story_3 9 rfl rfl)
theorem dX3_story_83 : decode cX3_story 83 = .ok (.iconst 0, 1) := dk_3 (dk_at dksX3_story_3 12 rfl rfl)
theorem dX3_story_84 : decode cX3_story 84 = .ok (.ireturn, 1) := dk_172 (dk_at dksX3_story_3 13 rfl rfl)
theorem dX3_story_85 : decode cX3_story 85 = .ok (.dload_n 3, 1) := dk_41 (dk_at dksX3_story_3 14 rfl rfl)
theorem dX3_story_86 : decode cX3_story 86 = .ok (.invokestatic 173, 3) := dk_184 0 173 (dk_at dksX3_story_3 15 rfl rfl)
theorem dX3_story_89 : decode cX3_story 89 = .ok (.dload 5, 2) := dk_24 5 (dk_at dksX3_story_3 18 rfl rfl)
theorem dX3_story_91 : decode cX3_story 91 = .ok (.invokestatic 173, 3) := dk_184 0 173 (dk_at dksX3_story_3 20 rfl rfl)
theorem dX3_story_94 : decode cX3_story 94 = .ok (.dcmp .l, 1) := dk_151 (dk_at dksX3_story_3 23 rfl rfl)
theorem dX3_story_95 : decode cX3_story 95 = .ok (.ifCond .le 10, 3) := dk_158 0 10 (dk_at dksX3_story_4 0 rfl rfl)
theorem dX3_story_98 : decode cX3_story 98 = .ok (.dload_n 3, 1) := dk_41 (dk_at dksX3_story_4 3 rfl rfl)
theorem dX3_story_99 : decode cX3_story 99 = .ok (.invokestatic 173, 3) := dk_184 0 173 (dk_at dksX3_story_4 4 rfl rfl)
theorem dX3_story_102 : decode cX3_story 102 = .ok (.goto 8, 3) := dk_167 0 8 (dk_at dksX3_story_4 7 rfl rfl)
theorem dX3_story_105 : decode cX3_story 105 = .ok (.dload 5, 2) := dk_24 5 (dk_at dksX3_story_4 10 rfl rfl)
theorem dX3_story_107 : decode cX3_story 107 = .ok (.invokestatic 173, 3) := dk_184 0 173 (dk_at dksX3_story_4 12 rfl rfl)
theorem dX3_story_110 : decode cX3_story 110 = .ok (.dstore 9, 2) := dk_57 9 (dk_at dksX3_story_4 15 rfl rfl)
theorem dX3_story_112 : decode cX3_story 112 = .ok (.ldc2_w 381, 3) := dk_20 1 125 (dk_at dksX3_story_4 17 rfl rfl)
theorem dX3_story_115 : decode cX3_story 115 = .ok (.dload 7, 2) := dk_24 7 (dk_at dksX3_story_4 20 rfl rfl)
theorem dX3_story_117 : decode cX3_story 117 = .ok (.invokestatic 173, 3) := dk_184 0 173 (dk_at dksX3_story_5 0 rfl rfl)
theorem dX3_story_120 : decode cX3_story 120 = .ok (.dmul, 1) := dk_107 (dk_at dksX3_story_5 3 rfl rfl)
theorem dX3_story_121 : decode cX3_story 121 = .ok (.dload 9, 2) := dk_24 9 (dk_at dksX3_story_5 4 rfl rfl)
theorem dX3_story_123 : decode cX3_story 123 = .ok (.dcmp .g, 1) := dk_152 (dk_at dksX3_story_5 6 rfl rfl)
theorem dX3_story_124 : decode cX3_story 124 = .ok (.ifCond .gt 31, 3) := dk_157 0 31 (dk_at dksX3_story_5 7 rfl rfl)
theorem dX3_story_127 : decode cX3_story 127 = .ok (.dload_n 3, 1) := dk_41 (dk_at dksX3_story_5 10 rfl rfl)
theorem dX3_story_128 : decode cX3_story 128 = .ok (.dconst 0, 1) := dk_14 (dk_at dksX3_story_5 11 rfl rfl)
theorem dX3_story_129 : decode cX3_story 129 = .ok (.dcmp .g, 1) := dk_152 (dk_at dksX3_story_5 12 rfl rfl)
theorem dX3_story_130 : decode cX3_story 130 = .ok (.ifCond .ge 10, 3) := dk_156 0 10 (dk_at dksX3_story_5 13 rfl rfl)
theorem dX3_story_133 : decode cX3_story 133 = .ok (.dload 5, 2) := dk_24 5 (dk_at dksX3_story_5 16 rfl rfl)
theorem dX3_story_135 : decode cX3_story 135 = .ok (.dconst 0, 1) := dk_14 (dk_at dksX3_story_5 18 rfl rfl)
theorem dX3_story_136 : decode cX3_story 136 = .ok (.dcmp .l, 1) := dk_151 (dk_at dksX3_story_5 19 rfl rfl)
theorem dX3_story_137 : decode cX3_story 137 = .ok (.ifCond .gt 16, 3) := dk_157 0 16 (dk_at dksX3_story_5 20 rfl rfl)
theorem dX3_story_140 : decode cX3_story 140 = .ok (.dload_n 3, 1) := dk_41 (dk_at dksX3_story_5 23 rfl rfl)
theorem dX3_story_141 : decode cX3_story 141 = .ok (.dconst 0, 1) := dk_14 (dk_at dksX3_story_6 0 rfl rfl)
theorem dX3_story_142 : decode cX3_story 142 = .ok (.dcmp .l, 1) := dk_151 (dk_at dksX3_story_6 1 rfl rfl)
theorem dX3_story_143 : decode cX3_story 143 = .ok (.ifCond .le 12, 3) := dk_158 0 12 (dk_at dksX3_story_6 2 rfl rfl)
theorem dX3_story_146 : decode cX3_story 146 = .ok (.dload 5, 2) := dk_24 5 (dk_at dksX3_story_6 5 rfl rfl)
theorem dX3_story_148 : decode cX3_story 148 = .ok (.dconst 0, 1) := dk_14 (dk_at dksX3_story_6 7 rfl rfl)
theorem dX3_story_149 : decode cX3_story 149 = .ok (.dcmp .g, 1) := dk_152 (dk_at dksX3_story_6 8 rfl rfl)
theorem dX3_story_150 : decode cX3_story 150 = .ok (.ifCond .ge 5, 3) := dk_156 0 5 (dk_at dksX3_story_6 9 rfl rfl)
theorem dX3_story_153 : decode cX3_story 153 = .ok (.iconst 1, 1) := dk_4 (dk_at dksX3_story_6 12 rfl rfl)
theorem dX3_story_154 : decode cX3_story 154 = .ok (.ireturn, 1) := dk_172 (dk_at dksX3_story_6 13 rfl rfl)
theorem dX3_story_155 : decode cX3_story 155 = .ok (.aload_n 0, 1) := dk_42 (dk_at dksX3_story_6 14 rfl rfl)
theorem dX3_story_156 : decode cX3_story 156 = .ok (.iconst 0, 1) := dk_3 (dk_at dksX3_story_6 15 rfl rfl)
theorem dX3_story_157 : decode cX3_story 157 = .ok (.iload_n 1, 1) := dk_27 (dk_at dksX3_story_6 16 rfl rfl)
theorem dX3_story_158 : decode cX3_story 158 = .ok (.iload_n 2, 1) := dk_28 (dk_at dksX3_story_6 17 rfl rfl)
theorem dX3_story_159 : decode cX3_story 159 = .ok (.invokevirtual 374, 3) := dk_182 1 118 (dk_at dksX3_story_6 18 rfl rfl)
theorem dX3_story_162 : decode cX3_story 162 = .ok (.aload_n 0, 1) := dk_42 (dk_at dksX3_story_6 21 rfl rfl)
theorem dX3_story_163 : decode cX3_story 163 = .ok (.iconst 0, 1) := dk_3 (dk_at dksX3_story_6 22 rfl rfl)
theorem dX3_story_164 : decode cX3_story 164 = .ok (.invokevirtual 136, 3) := dk_182 0 136 (dk_at dksX3_story_7 0 rfl rfl)
theorem dX3_story_167 : decode cX3_story 167 = .ok (.istore 11, 2) := dk_54 11 (dk_at dksX3_story_7 3 rfl rfl)
theorem dX3_story_169 : decode cX3_story 169 = .ok (.iload 11, 2) := dk_21 11 (dk_at dksX3_story_7 5 rfl rfl)
theorem dX3_story_171 : decode cX3_story 171 = .ok (.ifCond .ne 7, 3) := dk_154 0 7 (dk_at dksX3_story_7 7 rfl rfl)
theorem dX3_story_174 : decode cX3_story 174 = .ok (.iconst 2, 1) := dk_5 (dk_at dksX3_story_7 10 rfl rfl)
theorem dX3_story_175 : decode cX3_story 175 = .ok (.goto 13, 3) := dk_167 0 13 (dk_at dksX3_story_7 11 rfl rfl)
theorem dX3_story_178 : decode cX3_story 178 = .ok (.iload 11, 2) := dk_21 11 (dk_at dksX3_story_7 14 rfl rfl)
theorem dX3_story_180 : decode cX3_story 180 = .ok (.ifCond .ge 7, 3) := dk_156 0 7 (dk_at dksX3_story_7 16 rfl rfl)
theorem dX3_story_183 : decode cX3_story 183 = .ok (.iconst 3, 1) := dk_6 (dk_at dksX3_story_7 19 rfl rfl)
theorem dX3_story_184 : decode cX3_story 184 = .ok (.goto 4, 3) := dk_167 0 4 (dk_at dksX3_story_7 20 rfl rfl)
theorem dX3_story_187 : decode cX3_story 187 = .ok (.iconst 4, 1) := dk_7 (dk_at dksX3_story_7 23 rfl rfl)
theorem dX3_story_188 : decode cX3_story 188 = .ok (.ireturn, 1) := dk_172 (dk_at dksX3_story_8 0 rfl rfl)
abbrev cX3_worst : ByteArray := prog_27_method_72_code
def yX3_worst : MethodName := ⟨RX3, "worst", "(I)I"⟩
def dkwX3_worst_3 : List UInt8 := [61, 132, 3, 1, 167, 255, 206, 28, 172]
abbrev dktX3_worst_3 : List UInt8 := dkwX3_worst_3 ++ []
def dkwX3_worst_2 : List UInt8 := [156, 0, 8, 42, 3, 182, 0, 125, 42, 3, 4, 182, 1, 127, 158, 0, 11, 42, 4, 3, 182, 0, 139, 29]
abbrev dktX3_worst_2 : List UInt8 := dkwX3_worst_2 ++ dktX3_worst_3
def dkwX3_worst_1 : List UInt8 := [62, 29, 42, 180, 0, 42, 27, 46, 162, 0, 46, 42, 3, 27, 29, 182, 1, 118, 42, 3, 182, 0, 136]
abbrev dktX3_worst_1 : List UInt8 := dkwX3_worst_1 ++ dktX3_worst_2
def dkwX3_worst_0 : List UInt8 := [42, 3, 181, 0, 94, 42, 27, 182, 1, 107, 153, 0, 6, 16, 155, 172, 2, 61, 42, 4, 182, 0, 109, 3]
abbrev dktX3_worst_0 : List UInt8 := dkwX3_worst_0 ++ dktX3_worst_1
theorem dksX3_worst_0 : cX3_worst.data.toList.drop 0 = dktX3_worst_0 := by decide +kernel
theorem dksX3_worst_1 : cX3_worst.data.toList.drop 24 = dktX3_worst_1 := dk_seg dksX3_worst_0 24 rfl rfl
theorem dksX3_worst_2 : cX3_worst.data.toList.drop 47 = dktX3_worst_2 := dk_seg dksX3_worst_1 23 rfl rfl
theorem dksX3_worst_3 : cX3_worst.data.toList.drop 71 = dktX3_worst_3 := dk_seg dksX3_worst_2 24 rfl rfl
theorem dX3_worst_0 : decode cX3_worst 0 = .ok (.aload_n 0, 1) := dk_42 (dk_at dksX3_worst_0 0 rfl rfl)
theorem dX3_worst_1 : decode cX3_worst 1 = .ok (.iconst 0, 1) := dk_3 (dk_at dksX3_worst_0 1 rfl rfl)
theorem dX3_worst_2 : decode cX3_worst 2 = .ok (.putfield 94, 3) := dk_181 0 94 (dk_at dksX3_worst_0 2 rfl rfl)
theorem dX3_worst_5 : decode cX3_worst 5 = .ok (.aload_n 0, 1) := dk_42 (dk_at dksX3_worst_0 5 rfl rfl)
theorem dX3_worst_6 : decode cX3_worst 6 = .ok (.iload_n 1, 1) := dk_27 (dk_at dksX3_worst_0 6 rfl rfl)
theorem dX3_worst_7 : decode cX3_worst 7 = .ok (.invokevirtual 363, 3) := dk_182 1 107 (dk_at dksX3_worst_0 7 rfl rfl)
theorem dX3_worst_10 : decode cX3_worst 10 = .ok (.ifCond .eq 6, 3) := dk_153 0 6 (dk_at dksX3_worst_0 10 rfl rfl)
theorem dX3_worst_13 : decode cX3_worst 13 = .ok (.bipush (-101), 2) := dk_16 155 (dk_at dksX3_worst_0 13 rfl rfl)
theorem dX3_worst_15 : decode cX3_worst 15 = .ok (.ireturn, 1) := dk_172 (dk_at dksX3_worst_0 15 rfl rfl)
theorem dX3_worst_16 : decode cX3_worst 16 = .ok (.iconst (-1), 1) := dk_2 (dk_at dksX3_worst_0 16 rfl rfl)
theorem dX3_worst_17 : decode cX3_worst 17 = .ok (.istore_n 2, 1) := dk_61 (dk_at dksX3_worst_0 17 rfl rfl)
theorem dX3_worst_18 : decode cX3_worst 18 = .ok (.aload_n 0, 1) := dk_42 (dk_at dksX3_worst_0 18 rfl rfl)
theorem dX3_worst_19 : decode cX3_worst 19 = .ok (.iconst 1, 1) := dk_4 (dk_at dksX3_worst_0 19 rfl rfl)
theorem dX3_worst_20 : decode cX3_worst 20 = .ok (.invokevirtual 109, 3) := dk_182 0 109 (dk_at dksX3_worst_0 20 rfl rfl)
theorem dX3_worst_23 : decode cX3_worst 23 = .ok (.iconst 0, 1) := dk_3 (dk_at dksX3_worst_0 23 rfl rfl)
theorem dX3_worst_24 : decode cX3_worst 24 = .ok (.istore_n 3, 1) := dk_62 (dk_at dksX3_worst_1 0 rfl rfl)
theorem dX3_worst_25 : decode cX3_worst 25 = .ok (.iload_n 3, 1) := dk_29 (dk_at dksX3_worst_1 1 rfl rfl)
theorem dX3_worst_26 : decode cX3_worst 26 = .ok (.aload_n 0, 1) := dk_42 (dk_at dksX3_worst_1 2 rfl rfl)
theorem dX3_worst_27 : decode cX3_worst 27 = .ok (.getfield 42, 3) := dk_180 0 42 (dk_at dksX3_worst_1 3 rfl rfl)
theorem dX3_worst_30 : decode cX3_worst 30 = .ok (.iload_n 1, 1) := dk_27 (dk_at dksX3_worst_1 6 rfl rfl)
theorem dX3_worst_31 : decode cX3_worst 31 = .ok (.iaload, 1) := dk_46 (dk_at dksX3_worst_1 7 rfl rfl)
theorem dX3_worst_32 : decode cX3_worst 32 = .ok (.if_icmp .ge 46, 3) := dk_162 0 46 (dk_at dksX3_worst_1 8 rfl rfl)
theorem dX3_worst_35 : decode cX3_worst 35 = .ok (.aload_n 0, 1) := dk_42 (dk_at dksX3_worst_1 11 rfl rfl)
theorem dX3_worst_36 : decode cX3_worst 36 = .ok (.iconst 0, 1) := dk_3 (dk_at dksX3_worst_1 12 rfl rfl)
theorem dX3_worst_37 : decode cX3_worst 37 = .ok (.iload_n 1, 1) := dk_27 (dk_at dksX3_worst_1 13 rfl rfl)
theorem dX3_worst_38 : decode cX3_worst 38 = .ok (.iload_n 3, 1) := dk_29 (dk_at dksX3_worst_1 14 rfl rfl)
theorem dX3_worst_39 : decode cX3_worst 39 = .ok (.invokevirtual 374, 3) := dk_182 1 118 (dk_at dksX3_worst_1 15 rfl rfl)
theorem dX3_worst_42 : decode cX3_worst 42 = .ok (.aload_n 0, 1) := dk_42 (dk_at dksX3_worst_1 18 rfl rfl)
theorem dX3_worst_43 : decode cX3_worst 43 = .ok (.iconst 0, 1) := dk_3 (dk_at dksX3_worst_1 19 rfl rfl)
theorem dX3_worst_44 : decode cX3_worst 44 = .ok (.invokevirtual 136, 3) := dk_182 0 136 (dk_at dksX3_worst_1 20 rfl rfl)
theorem dX3_worst_47 : decode cX3_worst 47 = .ok (.ifCond .ge 8, 3) := dk_156 0 8 (dk_at dksX3_worst_2 0 rfl rfl)
theorem dX3_worst_50 : decode cX3_worst 50 = .ok (.aload_n 0, 1) := dk_42 (dk_at dksX3_worst_2 3 rfl rfl)
theorem dX3_worst_51 : decode cX3_worst 51 = .ok (.iconst 0, 1) := dk_3 (dk_at dksX3_worst_2 4 rfl rfl)
theorem dX3_worst_52 : decode cX3_worst 52 = .ok (.invokevirtual 125, 3) := dk_182 0 125 (dk_at dksX3_worst_2 5 rfl rfl)
theorem dX3_worst_55 : decode cX3_worst 55 = .ok (.aload_n 0, 1) := dk_42 (dk_at dksX3_worst_2 8 rfl rfl)
theorem dX3_worst_56 : decode cX3_worst 56 = .ok (.iconst 0, 1) := dk_3 (dk_at dksX3_worst_2 9 rfl rfl)
theorem dX3_worst_57 : decode cX3_worst 57 = .ok (.iconst 1, 1) := dk_4 (dk_at dksX3_worst_2 10 rfl rfl)
theorem dX3_worst_58 : decode cX3_worst 58 = .ok (.invokevirtual 383, 3) := dk_182 1 127 (dk_at dksX3_worst_2 11 rfl rfl)
theorem dX3_worst_61 : decode cX3_worst 61 = .ok (.ifCond .le 11, 3) := dk_158 0 11 (dk_at dksX3_worst_2 14 rfl rfl)
theorem dX3_worst_64 : decode cX3_worst 64 = .ok (.aload_n 0, 1) := dk_42 (dk_at dksX3_worst_2 17 rfl rfl)
theorem dX3_worst_65 : decode cX3_worst 65 = .ok (.iconst 1, 1) := dk_4 (dk_at dksX3_worst_2 18 rfl rfl)
theorem dX3_worst_66 : decode cX3_worst 66 = .ok (.iconst 0, 1) := dk_3 (dk_at dksX3_worst_2 19 rfl rfl)
theorem dX3_worst_67 : decode cX3_worst 67 = .ok (.invokevirtual 139, 3) := dk_182 0 139 (dk_at dksX3_worst_2 20 rfl rfl)
theorem dX3_worst_70 : decode cX3_worst 70 = .ok (.iload_n 3, 1) := dk_29 (dk_at dksX3_worst_2 23 rfl rfl)
theorem dX3_worst_71 : decode cX3_worst 71 = .ok (.istore_n 2, 1) := dk_61 (dk_at dksX3_worst_3 0 rfl rfl)
theorem dX3_worst_72 : decode cX3_worst 72 = .ok (.iinc 3 1, 3) := dk_132 3 1 (dk_at dksX3_worst_3 1 rfl rfl)
theorem dX3_worst_75 : decode cX3_worst 75 = .ok (.goto (-50), 3) := dk_167 255 206 (dk_at dksX3_worst_3 4 rfl rfl)
theorem dX3_worst_78 : decode cX3_worst 78 = .ok (.iload_n 2, 1) := dk_28 (dk_at dksX3_worst_3 7 rfl rfl)
theorem dX3_worst_79 : decode cX3_worst 79 = .ok (.ireturn, 1) := dk_172 (dk_at dksX3_worst_3 8 rfl rfl)
abbrev cX3_compareBig : ByteArray := prog_27_method_13_code
def yX3_compareBig : MethodName := ⟨RX3, "compareBig", "(II)I"⟩
def dkwX3_compareBig_3 : List UInt8 := [3, 172]
abbrev dktX3_compareBig_3 : List UInt8 := dkwX3_compareBig_3 ++ []
def dkwX3_compareBig_2 : List UInt8 := [148, 153, 0, 17, 22, 4, 22, 6, 148, 156, 0, 7, 2, 167, 0, 4, 4, 172, 132, 3, 255, 167, 255, 191]
abbrev dktX3_compareBig_2 : List UInt8 := dkwX3_compareBig_2 ++ dktX3_compareBig_3
def dkwX3_compareBig_1 : List UInt8 := [55, 4, 42, 180, 0, 79, 16, 44, 28, 104, 29, 96, 46, 133, 20, 0, 107, 127, 55, 6, 22, 4, 22, 6]
abbrev dktX3_compareBig_1 : List UInt8 := dkwX3_compareBig_1 ++ dktX3_compareBig_2
def dkwX3_compareBig_0 : List UInt8 := [16, 43, 62, 29, 155, 0, 67, 42, 180, 0, 79, 16, 44, 27, 104, 29, 96, 46, 133, 20, 0, 107, 127]
abbrev dktX3_compareBig_0 : List UInt8 := dkwX3_compareBig_0 ++ dktX3_compareBig_1
theorem dksX3_compareBig_0 : cX3_compareBig.data.toList.drop 0 = dktX3_compareBig_0 := by decide +kernel
theorem dksX3_compareBig_1 : cX3_compareBig.data.toList.drop 23 = dktX3_compareBig_1 := dk_seg dksX3_compareBig_0 23 rfl rfl
theorem dksX3_compareBig_2 : cX3_compareBig.data.toList.drop 47 = dktX3_compareBig_2 := dk_seg dksX3_compareBig_1 24 rfl rfl
theorem dksX3_compareBig_3 : cX3_compareBig.data.toList.drop 71 = dktX3_compareBig_3 := dk_seg dksX3_compareBig_2 24 rfl rfl
theorem dX3_compareBig_0 : decode cX3_compareBig 0 = .ok (.bipush 43, 2) := dk_16 43 (dk_at dksX3_compareBig_0 0 rfl rfl)
theorem dX3_compareBig_2 : decode cX3_compareBig 2 = .ok (.istore_n 3, 1) := dk_62 (dk_at dksX3_compareBig_0 2 rfl rfl)
theorem dX3_compareBig_3 : decode cX3_compareBig 3 = .ok (.iload_n 3, 1) := dk_29 (dk_at dksX3_compareBig_0 3 rfl rfl)
theorem dX3_compareBig_4 : decode cX3_compareBig 4 = .ok (.ifCond .lt 67, 3) := dk_155 0 67 (dk_at dksX3_compareBig_0 4 rfl rfl)
theorem dX3_compareBig_7 : decode cX3_compareBig 7 = .ok (.aload_n 0, 1) := dk_42 (dk_at dksX3_compareBig_0 7 rfl rfl)
theorem dX3_compareBig_8 : decode cX3_compareBig 8 = .ok (.getfield 79, 3) := dk_180 0 79 (dk_at dksX3_compareBig_0 8 rfl rfl)
theorem dX3_compareBig_11 : decode cX3_compareBig 11 = .ok (.bipush 44, 2) := dk_16 44 (dk_at dksX3_compareBig_0 11 rfl rfl)
theorem dX3_compareBig_13 : decode cX3_compareBig 13 = .ok (.iload_n 1, 1) := dk_27 (dk_at dksX3_compareBig_0 13 rfl rfl)
theorem dX3_compareBig_14 : decode cX3_compareBig 14 = .ok (.imul, 1) := dk_104 (dk_at dksX3_compareBig_0 14 rfl rfl)
theorem dX3_compareBig_15 : decode cX3_compareBig 15 = .ok (.iload_n 3, 1) := dk_29 (dk_at dksX3_compareBig_0 15 rfl rfl)
theorem dX3_compareBig_16 : decode cX3_compareBig 16 = .ok (.iadd, 1) := dk_96 (dk_at dksX3_compareBig_0 16 rfl rfl)
theorem dX3_compareBig_17 : decode cX3_compareBig 17 = .ok (.iaload, 1) := dk_46 (dk_at dksX3_compareBig_0 17 rfl rfl)
theorem dX3_compareBig_18 : decode cX3_compareBig 18 = .ok (.i2l, 1) := dk_133 (dk_at dksX3_compareBig_0 18 rfl rfl)
theorem dX3_compareBig_19 : decode cX3_compareBig 19 = .ok (.ldc2_w 107, 3) := dk_20 0 107 (dk_at dksX3_compareBig_0 19 rfl rfl)
theorem dX3_compareBig_22 : decode cX3_compareBig 22 = .ok (.land, 1) := dk_127 (dk_at dksX3_compareBig_0 22 rfl rfl)
theorem dX3_compareBig_23 : decode cX3_compareBig 23 = .ok (.lstore 4, 2) := dk_55 4 (dk_at dksX3_compareBig_1 0 rfl rfl)
theorem dX3_compareBig_25 : decode cX3_compareBig 25 = .ok (.aload_n 0, 1) := dk_42 (dk_at dksX3_compareBig_1 2 rfl rfl)
theorem dX3_compareBig_26 : decode cX3_compareBig 26 = .ok (.getfield 79, 3) := dk_180 0 79 (dk_at dksX3_compareBig_1 3 rfl rfl)
theorem dX3_compareBig_29 : decode cX3_compareBig 29 = .ok (.bipush 44, 2) := dk_16 44 (dk_at dksX3_compareBig_1 6 rfl rfl)
theorem dX3_compareBig_31 : decode cX3_compareBig 31 = .ok (.iload_n 2, 1) := dk_28 (dk_at dksX3_compareBig_1 8 rfl rfl)
theorem dX3_compareBig_32 : decode cX3_compareBig 32 = .ok (.imul, 1) := dk_104 (dk_at dksX3_compareBig_1 9 rfl rfl)
theorem dX3_compareBig_33 : decode cX3_compareBig 33 = .ok (.iload_n 3, 1) := dk_29 (dk_at dksX3_compareBig_1 10 rfl rfl)
theorem dX3_compareBig_34 : decode cX3_compareBig 34 = .ok (.iadd, 1) := dk_96 (dk_at dksX3_compareBig_1 11 rfl rfl)
theorem dX3_compareBig_35 : decode cX3_compareBig 35 = .ok (.iaload, 1) := dk_46 (dk_at dksX3_compareBig_1 12 rfl rfl)
theorem dX3_compareBig_36 : decode cX3_compareBig 36 = .ok (.i2l, 1) := dk_133 (dk_at dksX3_compareBig_1 13 rfl rfl)
theorem dX3_compareBig_37 : decode cX3_compareBig 37 = .ok (.ldc2_w 107, 3) := dk_20 0 107 (dk_at dksX3_compareBig_1 14 rfl rfl)
theorem dX3_compareBig_40 : decode cX3_compareBig 40 = .ok (.land, 1) := dk_127 (dk_at dksX3_compareBig_1 17 rfl rfl)
theorem dX3_compareBig_41 : decode cX3_compareBig 41 = .ok (.lstore 6, 2) := dk_55 6 (dk_at dksX3_compareBig_1 18 rfl rfl)
theorem dX3_compareBig_43 : decode cX3_compareBig 43 = .ok (.lload 4, 2) := dk_22 4 (dk_at dksX3_compareBig_1 20 rfl rfl)
theorem dX3_compareBig_45 : decode cX3_compareBig 45 = .ok (.lload 6, 2) := dk_22 6 (dk_at dksX3_compareBig_1 22 rfl rfl)
theorem dX3_compareBig_47 : decode cX3_compareBig 47 = .ok (.lcmp, 1) := dk_148 (dk_at dksX3_compareBig_2 0 rfl rfl)
theorem dX3_compareBig_48 : decode cX3_compareBig 48 = .ok (.ifCond .eq 17, 3) := dk_153 0 17 (dk_at dksX3_compareBig_2 1 rfl rfl)
theorem dX3_compareBig_51 : decode cX3_compareBig 51 = .ok (.lload 4, 2) := dk_22 4 (dk_at dksX3_compareBig_2 4 rfl rfl)
theorem dX3_compareBig_53 : decode cX3_compareBig 53 = .ok (.lload 6, 2) := dk_22 6 (dk_at dksX3_compareBig_2 6 rfl rfl)
theorem dX3_compareBig_55 : decode cX3_compareBig 55 = .ok (.lcmp, 1) := dk_148 (dk_at dksX3_compareBig_2 8 rfl rfl)
theorem dX3_compareBig_56 : decode cX3_compareBig 56 = .ok (.ifCond .ge 7, 3) := dk_156 0 7 (dk_at dksX3_compareBig_2 9 rfl rfl)
theorem dX3_compareBig_59 : decode cX3_compareBig 59 = .ok (.iconst (-1), 1) := dk_2 (dk_at dksX3_compareBig_2 12 rfl rfl)
theorem dX3_compareBig_60 : decode cX3_compareBig 60 = .ok (.goto 4, 3) := dk_167 0 4 (dk_at dksX3_compareBig_2 13 rfl rfl)
theorem dX3_compareBig_63 : decode cX3_compareBig 63 = .ok (.iconst 1, 1) := dk_4 (dk_at dksX3_compareBig_2 16 rfl rfl)
theorem dX3_compareBig_64 : decode cX3_compareBig 64 = .ok (.ireturn, 1) := dk_172 (dk_at dksX3_compareBig_2 17 rfl rfl)
theorem dX3_compareBig_65 : decode cX3_compareBig 65 = .ok (.iinc 3 (-1), 3) := dk_132 3 255 (dk_at dksX3_compareBig_2 18 rfl rfl)
theorem dX3_compareBig_68 : decode cX3_compareBig 68 = .ok (.goto (-65), 3) := dk_167 255 191 (dk_at dksX3_compareBig_2 21 rfl rfl)
theorem dX3_compareBig_71 : decode cX3_compareBig 71 = .ok (.iconst 0, 1) := dk_3 (dk_at dksX3_compareBig_3 0 rfl rfl)
theorem dX3_compareBig_72 : decode cX3_compareBig 72 = .ok (.ireturn, 1) := dk_172 (dk_at dksX3_compareBig_3 1 rfl rfl)
abbrev cX3_off : ByteArray := prog_27_method_74_code
def yX3_off : MethodName := ⟨RX3, "off", "(II)I"⟩
def dkwX3_off_7 : List UInt8 := [132, 3, 1, 167, 255, 149, 2, 172]
abbrev dktX3_off_7 : List UInt8 := dkwX3_off_7 ++ []
def dkwX3_off_6 : List UInt8 := [20, 0, 146, 28, 184, 0, 177, 105, 182, 1, 134, 42, 4, 5, 182, 1, 127, 155, 0, 5, 29, 172]
abbrev dktX3_off_6 : List UInt8 := dkwX3_off_6 ++ dktX3_off_7
def dkwX3_off_5 : List UInt8 := [27, 104, 29, 96, 49, 119, 182, 0, 158, 42, 4, 182, 0, 136, 156, 0, 8, 42, 4, 182, 0, 125, 42, 4]
abbrev dktX3_off_5 : List UInt8 := dkwX3_off_5 ++ dktX3_off_6
def dkwX3_off_4 : List UInt8 := [16, 60, 27, 104, 29, 96, 49, 182, 0, 158, 42, 4, 3, 182, 0, 139, 42, 4, 42, 180, 0, 51, 16, 60]
abbrev dktX3_off_4 : List UInt8 := dkwX3_off_4 ++ dktX3_off_5
def dkwX3_off_3 : List UInt8 := [154, 0, 17, 42, 3, 42, 180, 0, 45, 16, 60, 27, 104, 49, 182, 0, 158, 42, 3, 42, 180, 0, 48]
abbrev dktX3_off_3 : List UInt8 := dkwX3_off_3 ++ dktX3_off_4
def dkwX3_off_2 : List UInt8 := [5, 182, 1, 131, 42, 3, 182, 0, 109, 3, 62, 29, 42, 180, 0, 42, 27, 46, 162, 0, 103, 29]
abbrev dktX3_off_2 : List UInt8 := dkwX3_off_2 ++ dktX3_off_3
def dkwX3_off_1 : List UInt8 := [184, 0, 99, 154, 0, 6, 16, 154, 172, 42, 180, 0, 36, 27, 46, 16, 6, 164, 0, 6, 16, 152, 172, 42]
abbrev dktX3_off_1 : List UInt8 := dkwX3_off_1 ++ dktX3_off_2
def dkwX3_off_0 : List UInt8 := [42, 3, 181, 0, 94, 42, 27, 182, 1, 107, 153, 0, 6, 16, 155, 172, 28, 133, 9, 20, 0, 235]
abbrev dktX3_off_0 : List UInt8 := dkwX3_off_0 ++ dktX3_off_1
theorem dksX3_off_0 : cX3_off.data.toList.drop 0 = dktX3_off_0 := by decide +kernel
theorem dksX3_off_1 : cX3_off.data.toList.drop 22 = dktX3_off_1 := dk_seg dksX3_off_0 22 rfl rfl
theorem dksX3_off_2 : cX3_off.data.toList.drop 46 = dktX3_off_2 := dk_seg dksX3_off_1 24 rfl rfl
theorem dksX3_off_3 : cX3_off.data.toList.drop 68 = dktX3_off_3 := dk_seg dksX3_off_2 22 rfl rfl
theorem dksX3_off_4 : cX3_off.data.toList.drop 91 = dktX3_off_4 := dk_seg dksX3_off_3 23 rfl rfl
theorem dksX3_off_5 : cX3_off.data.toList.drop 115 = dktX3_off_5 := dk_seg dksX3_off_4 24 rfl rfl
theorem dksX3_off_6 : cX3_off.data.toList.drop 139 = dktX3_off_6 := dk_seg dksX3_off_5 24 rfl rfl
theorem dksX3_off_7 : cX3_off.data.toList.drop 161 = dktX3_off_7 := dk_seg dksX3_off_6 22 rfl rfl
theorem dX3_off_0 : decode cX3_off 0 = .ok (.aload_n 0, 1) := dk_42 (dk_at dksX3_off_0 0 rfl rfl)
theorem dX3_off_1 : decode cX3_off 1 = .ok (.iconst 0, 1) := dk_3 (dk_at dksX3_off_0 1 rfl rfl)
theorem dX3_off_2 : decode cX3_off 2 = .ok (.putfield 94, 3) := dk_181 0 94 (dk_at dksX3_off_0 2 rfl rfl)
theorem dX3_off_5 : decode cX3_off 5 = .ok (.aload_n 0, 1) := dk_42 (dk_at dksX3_off_0 5 rfl rfl)
theorem dX3_off_6 : decode cX3_off 6 = .ok (.iload_n 1, 1) := dk_27 (dk_at dksX3_off_0 6 rfl rfl)
theorem dX3_off_7 : decode cX3_off 7 = .ok (.invokevirtual 363, 3) := dk_182 1 107 (dk_at dksX3_off_0 7 rfl rfl)
theorem dX3_off_10 : decode cX3_off 10 = .ok (.ifCond .eq 6, 3) := dk_153 0 6 (dk_at dksX3_off_0 10 rfl rfl)
theorem dX3_off_13 : decode cX3_off 13 = .ok (.bipush (-101), 2) := dk_16 155 (dk_at dksX3_off_0 13 rfl rfl)
theorem dX3_off_15 : decode cX3_off 15 = .ok (.ireturn, 1) := dk_172 (dk_at dksX3_off_0 15 rfl rfl)
theorem dX3_off_16 : decode cX3_off 16 = .ok (.iload_n 2, 1) := dk_28 (dk_at dksX3_off_0 16 rfl rfl)
theorem dX3_off_17 : decode cX3_off 17 = .ok (.i2l, 1) := dk_133 (dk_at dksX3_off_0 17 rfl rfl)
theorem dX3_off_18 : decode cX3_off 18 = .ok (.lconst 0, 1) := dk_9 (dk_at dksX3_off_0 18 rfl rfl)
theorem dX3_off_19 : decode cX3_off 19 = .ok (.ldc2_w 235, 3) := dk_20 0 235 (dk_at dksX3_off_0 19 rfl rfl)
theorem dX3_off_22 : decode cX3_off 22 = .ok (.invokestatic 99, 3) := dk_184 0 99 (dk_at dksX3_off_1 0 rfl rfl)
theorem dX3_off_25 : decode cX3_off 25 = .ok (.ifCond .ne 6, 3) := dk_154 0 6 (dk_at dksX3_off_1 3 rfl rfl)
theorem dX3_off_28 : decode cX3_off 28 = .ok (.bipush (-102), 2) := dk_16 154 (dk_at dksX3_off_1 6 rfl rfl)
theorem dX3_off_30 : decode cX3_off 30 = .ok (.ireturn, 1) := dk_172 (dk_at dksX3_off_1 8 rfl rfl)
theorem dX3_off_31 : decode cX3_off 31 = .ok (.aload_n 0, 1) := dk_42 (dk_at dksX3_off_1 9 rfl rfl)
theorem dX3_off_32 : decode cX3_off 32 = .ok (.getfield 36, 3) := dk_180 0 36 (dk_at dksX3_off_1 10 rfl rfl)
theorem dX3_off_35 : decode cX3_off 35 = .ok (.iload_n 1, 1) := dk_27 (dk_at dksX3_off_1 13 rfl rfl)
theorem dX3_off_36 : decode cX3_off 36 = .ok (.iaload, 1) := dk_46 (dk_at dksX3_off_1 14 rfl rfl)
theorem dX3_off_37 : decode cX3_off 37 = .ok (.bipush 6, 2) := dk_16 6 (dk_at dksX3_off_1 15 rfl rfl)
theorem dX3_off_39 : decode cX3_off 39 = .ok (.if_icmp .le 6, 3) := dk_164 0 6 (dk_at dksX3_off_1 17 rfl rfl)
theorem dX3_off_42 : decode cX3_off 42 = .ok (.bipush (-104), 2) := dk_16 152 (dk_at dksX3_off_1 20 rfl rfl)
theorem dX3_off_44 : decode cX3_off 44 = .ok (.ireturn, 1) := dk_172 (dk_at dksX3_off_1 22 rfl rfl)
theorem dX3_off_45 : decode cX3_off 45 = .ok (.aload_n 0, 1) := dk_42 (dk_at dksX3_off_1 23 rfl rfl)
theorem dX3_off_46 : decode cX3_off 46 = .ok (.iconst 2, 1) := dk_5 (dk_at dksX3_off_2 0 rfl rfl)
theorem dX3_off_47 : decode cX3_off 47 = .ok (.invokevirtual 387, 3) := dk_182 1 131 (dk_at dksX3_off_2 1 rfl rfl)
theorem dX3_off_50 : decode cX3_off 50 = .ok (.aload_n 0, 1) := dk_42 (dk_at dksX3_off_2 4 rfl rfl)
theorem dX3_off_51 : decode cX3_off 51 = .ok (.iconst 0, 1) := dk_3 (dk_at dksX3_off_2 5 rfl rfl)
theorem dX3_off_52 : decode cX3_off 52 = .ok (.invokevirtual 109, 3) := dk_182 0 109 (dk_at dksX3_off_2 6 rfl rfl)
theorem dX3_off_55 : decode cX3_off 55 = .ok (.iconst 0, 1) := dk_3 (dk_at dksX3_off_2 9 rfl rfl)
theorem dX3_off_56 : decode cX3_off 56 = .ok (.istore_n 3, 1) := dk_62 (dk_at dksX3_off_2 10 rfl rfl)
theorem dX3_off_57 : decode cX3_off 57 = .ok (.iload_n 3, 1) := dk_29 (dk_at dksX3_off_2 11 rfl rfl)
theorem dX3_off_58 : decode cX3_off 58 = .ok (.aload_n 0, 1) := dk_42 (dk_at dksX3_off_2 12 rfl rfl)
theorem dX3_off_59 : decode cX3_off 59 = .ok (.getfield 42, 3) := dk_180 0 42 (dk_at dksX3_off_2 13 rfl rfl)
theorem dX3_off_62 : decode cX3_off 62 = .ok (.iload_n 1, 1) := dk_27 (dk_at dksX3_off_2 16 rfl rfl)
theorem dX3_off_63 : decode cX3_off 63 = .ok (.iaload, 1) := dk_46 (dk_at dksX3_off_2 17 rfl rfl)
theorem dX3_off_64 : decode cX3_off 64 = .ok (.if_icmp .ge 103, 3) := dk_162 0 103 (dk_at dksX3_off_2 18 rfl rfl)
theorem dX3_off_67 : decode cX3_off 67 = .ok (.iload_n 3, 1) := dk_29 (dk_at dksX3_off_2 21 rfl rfl)
theorem dX3_off_68 : decode cX3_off 68 = .ok (.ifCond .ne 17, 3) := dk_154 0 17 (dk_at dksX3_off_3 0 rfl rfl)
theorem dX3_off_71 : decode cX3_off 71 = .ok (.aload_n 0, 1) := dk_42 (dk_at dksX3_off_3 3 rfl rfl)
theorem dX3_off_72 : decode cX3_off 72 = .ok (.iconst 0, 1) := dk_3 (dk_at dksX3_off_3 4 rfl rfl)
theorem dX3_off_73 : decode cX3_off 73 = .ok (.aload_n 0, 1) := dk_42 (dk_at dksX3_off_3 5 rfl rfl)
theorem dX3_off_74 : decode cX3_off 74 = .ok (.getfield 45, 3) := dk_180 0 45 (dk_at dksX3_off_3 6 rfl rfl)
theorem dX3_off_77 : decode cX3_off 77 = .ok (.bipush 60, 2) := dk_16 60 (dk_at dksX3_off_3 9 rfl rfl)
theorem dX3_off_79 : decode cX3_off 79 = .ok (.iload_n 1, 1) := dk_27 (dk_at dksX3_off_3 11 rfl rfl)
theorem dX3_off_80 : decode cX3_off 80 = .ok (.imul, 1) := dk_104 (dk_at dksX3_off_3 12 rfl rfl)
theorem dX3_off_81 : decode cX3_off 81 = .ok (.daload, 1) := dk_49 (dk_at dksX3_off_3 13 rfl rfl)
theorem dX3_off_82 : decode cX3_off 82 = .ok (.invokevirtual 158, 3) := dk_182 0 158 (dk_at dksX3_off_3 14 rfl rfl)
theorem dX3_off_85 : decode cX3_off 85 = .ok (.aload_n 0, 1) := dk_42 (dk_at dksX3_off_3 17 rfl rfl)
theorem dX3_off_86 : decode cX3_off 86 = .ok (.iconst 0, 1) := dk_3 (dk_at dksX3_off_3 18 rfl rfl)
theorem dX3_off_87 : decode cX3_off 87 = .ok (.aload_n 0, 1) := dk_42 (dk_at dksX3_off_3 19 rfl rfl)
theorem dX3_off_88 : decode cX3_off 88 = .ok (.getfield 48, 3) := dk_180 0 48 (dk_at dksX3_off_3 20 rfl rfl)
theorem dX3_off_91 : decode cX3_off 91 = .ok (.bipush 60, 2) := dk_16 60 (dk_at dksX3_off_4 0 rfl rfl)
theorem dX3_off_93 : decode cX3_off 93 = .ok (.iload_n 1, 1) := dk_27 (dk_at dksX3_off_4 2 rfl rfl)
theorem dX3_off_94 : decode cX3_off 94 = .ok (.imul, 1) := dk_104 (dk_at dksX3_off_4 3 rfl rfl)
theorem dX3_off_95 : decode cX3_off 95 = .ok (.iload_n 3, 1) := dk_29 (dk_at dksX3_off_4 4 rfl rfl)
theorem dX3_off_96 : decode cX3_off 96 = .ok (.iadd, 1) := dk_96 (dk_at dksX3_off_4 5 rfl rfl)
theorem dX3_off_97 : decode cX3_off 97 = .ok (.daload, 1) := dk_49 (dk_at dksX3_off_4 6 rfl rfl)
theorem dX3_off_98 : decode cX3_off 98 = .ok (.invokevirtual 158, 3) := dk_182 0 158 (dk_at dksX3_off_4 7 rfl rfl)
theorem dX3_off_101 : decode cX3_off 101 = .ok (.aload_n 0, 1) := dk_42 (dk_at dksX3_off_4 10 rfl rfl)
theorem dX3_off_102 : decode cX3_off 102 = .ok (.iconst 1, 1) := dk_4 (dk_at dksX3_off_4 11 rfl rfl)
theorem dX3_off_103 : decode cX3_off 103 = .ok (.iconst 0, 1) := dk_3 (dk_at dksX3_off_4 12 rfl rfl)
theorem dX3_off_104 : decode cX3_off 104 = .ok (.invokevirtual 139, 3) := dk_182 0 139 (dk_at dksX3_off_4 13 rfl rfl)
theorem dX3_off_107 : decode cX3_off 107 = .ok (.aload_n 0, 1) := dk_42 (dk_at dksX3_off_4 16 rfl rfl)
theorem dX3_off_108 : decode cX3_off 108 = .ok (.iconst 1, 1) := dk_4 (dk_at dksX3_off_4 17 rfl rfl)
theorem dX3_off_109 : decode cX3_off 109 = .ok (.aload_n 0, 1) := dk_42 (dk_at dksX3_off_4 18 rfl rfl)
theorem dX3_off_110 : decode cX3_off 110 = .ok (.getfield 51, 3) := dk_180 0 51 (dk_at dksX3_off_4 19 rfl rfl)
theorem dX3_off_113 : decode cX3_off 113 = .ok (.bipush 60, 2) := dk_16 60 (dk_at dksX3_off_4 22 rfl rfl)
theorem dX3_off_115 : decode cX3_off 115 = .ok (.iload_n 1, 1) := dk_27 (dk_at dksX3_off_5 0 rfl rfl)
theorem dX3_off_116 : decode cX3_off 116 = .ok (.imul, 1) := dk_104 (dk_at dksX3_off_5 1 rfl rfl)
theorem dX3_off_117 : decode cX3_off 117 = .ok (.iload_n 3, 1) := dk_29 (dk_at dksX3_off_5 2 rfl rfl)
theorem dX3_off_118 : decode cX3_off 118 = .ok (.iadd, 1) := dk_96 (dk_at dksX3_off_5 3 rfl rfl)
theorem dX3_off_119 : decode cX3_off 119 = .ok (.daload, 1) := dk_49 (dk_at dksX3_off_5 4 rfl rfl)
theorem dX3_off_120 : decode cX3_off 120 = .ok (.dneg, 1) := dk_119 (dk_at dksX3_off_5 5 rfl rfl)
theorem dX3_off_121 : decode cX3_off 121 = .ok (.invokevirtual 158, 3) := dk_182 0 158 (dk_at dksX3_off_5 6 rfl rfl)
theorem dX3_off_124 : decode cX3_off 124 = .ok (.aload_n 0, 1) := dk_42 (dk_at dksX3_off_5 9 rfl rfl)
theorem dX3_off_125 : decode cX3_off 125 = .ok (.iconst 1, 1) := dk_4 (dk_at dksX3_off_5 10 rfl rfl)
theorem dX3_off_126 : decode cX3_off 126 = .ok (.invokevirtual 136, 3) := dk_182 0 136 (dk_at dksX3_off_5 11 rfl rfl)
theorem dX3_off_129 : decode cX3_off 129 = .ok (.ifCond .ge 8, 3) := dk_156 0 8 (dk_at dksX3_off_5 14 rfl rfl)
theorem dX3_off_132 : decode cX3_off 132 = .ok (.aload_n 0, 1) := dk_42 (dk_at dksX3_off_5 17 rfl rfl)
theorem dX3_off_133 : decode cX3_off 133 = .ok (.iconst 1, 1) := dk_4 (dk_at dksX3_off_5 18 rfl rfl)
theorem dX3_off_134 : decode cX3_off 134 = .ok (.invokevirtual 125, 3) := dk_182 0 125 (dk_at dksX3_off_5 19 rfl rfl)
theorem dX3_off_137 : decode cX3_off 137 = .ok (.aload_n 0, 1) := dk_42 (dk_at dksX3_off_5 22 rfl rfl)
theorem dX3_off_138 : decode cX3_off 138 = .ok (.iconst 1, 1) := dk_4 (dk_at dksX3_off_5 23 rfl rfl)
theorem dX3_off_139 : decode cX3_off 139 = .ok (.ldc2_w 146, 3) := dk_20 0 146 (dk_at dksX3_off_6 0 rfl rfl)
theorem dX3_off_142 : decode cX3_off 142 = .ok (.iload_n 2, 1) := dk_28 (dk_at dksX3_off_6 3 rfl rfl)
theorem dX3_off_143 : decode cX3_off 143 = .ok (.invokestatic 177, 3) := dk_184 0 177 (dk_at dksX3_off_6 4 rfl rfl)
theorem dX3_off_146 : decode cX3_off 146 = .ok (.lmul, 1) := dk_105 (dk_at dksX3_off_6 7 rfl rfl)
theorem dX3_off_147 : decode cX3_off 147 = .ok (.invokevirtual 390, 3) := dk_182 1 134 (dk_at dksX3_off_6 8 rfl rfl)
theorem dX3_off_150 : decode cX3_off 150 = .ok (.aload_n 0, 1) := dk_42 (dk_at dksX3_off_6 11 rfl rfl)
theorem dX3_off_151 : decode cX3_off 151 = .ok (.iconst 1, 1) := dk_4 (dk_at dksX3_off_6 12 rfl rfl)
theorem dX3_off_152 : decode cX3_off 152 = .ok (.iconst 2, 1) := dk_5 (dk_at dksX3_off_6 13 rfl rfl)
theorem dX3_off_153 : decode cX3_off 153 = .ok (.invokevirtual 383, 3) := dk_182 1 127 (dk_at dksX3_off_6 14 rfl rfl)
theorem dX3_off_156 : decode cX3_off 156 = .ok (.ifCond .lt 5, 3) := dk_155 0 5 (dk_at dksX3_off_6 17 rfl rfl)
theorem dX3_off_159 : decode cX3_off 159 = .ok (.iload_n 3, 1) := dk_29 (dk_at dksX3_off_6 20 rfl rfl)
theorem dX3_off_160 : decode cX3_off 160 = .ok (.ireturn, 1) := dk_172 (dk_at dksX3_off_6 21 rfl rfl)
theorem dX3_off_161 : decode cX3_off 161 = .ok (.iinc 3 1, 3) := dk_132 3 1 (dk_at dksX3_off_7 0 rfl rfl)
theorem dX3_off_164 : decode cX3_off 164 = .ok (.goto (-107), 3) := dk_167 255 149 (dk_at dksX3_off_7 3 rfl rfl)
theorem dX3_off_167 : decode cX3_off 167 = .ok (.iconst (-1), 1) := dk_2 (dk_at dksX3_off_7 6 rfl rfl)
theorem dX3_off_168 : decode cX3_off 168 = .ok (.ireturn, 1) := dk_172 (dk_at dksX3_off_7 7 rfl rfl)
abbrev cX3_one : ByteArray := prog_27_method_73_code
def yX3_one : MethodName := ⟨RX3, "one", "(I)V"⟩
def dkwX3_one_0 : List UInt8 := [42, 27, 182, 0, 109, 42, 180, 0, 79, 16, 44, 27, 104, 16, 33, 96, 19, 1, 130, 79, 177]
abbrev dktX3_one_0 : List UInt8 := dkwX3_one_0 ++ []
theorem dksX3_one_0 : cX3_one.data.toList.drop 0 = dktX3_one_0 := by decide +kernel
theorem dX3_one_0 : decode cX3_one 0 = .ok (.aload_n 0, 1) := dk_42 (dk_at dksX3_one_0 0 rfl rfl)
theorem dX3_one_1 : decode cX3_one 1 = .ok (.iload_n 1, 1) := dk_27 (dk_at dksX3_one_0 1 rfl rfl)
theorem dX3_one_2 : decode cX3_one 2 = .ok (.invokevirtual 109, 3) := dk_182 0 109 (dk_at dksX3_one_0 2 rfl rfl)
theorem dX3_one_5 : decode cX3_one 5 = .ok (.aload_n 0, 1) := dk_42 (dk_at dksX3_one_0 5 rfl rfl)
theorem dX3_one_6 : decode cX3_one 6 = .ok (.getfield 79, 3) := dk_180 0 79 (dk_at dksX3_one_0 6 rfl rfl)
theorem dX3_one_9 : decode cX3_one 9 = .ok (.bipush 44, 2) := dk_16 44 (dk_at dksX3_one_0 9 rfl rfl)
theorem dX3_one_11 : decode cX3_one 11 = .ok (.iload_n 1, 1) := dk_27 (dk_at dksX3_one_0 11 rfl rfl)
theorem dX3_one_12 : decode cX3_one 12 = .ok (.imul, 1) := dk_104 (dk_at dksX3_one_0 12 rfl rfl)
theorem dX3_one_13 : decode cX3_one 13 = .ok (.bipush 33, 2) := dk_16 33 (dk_at dksX3_one_0 13 rfl rfl)
theorem dX3_one_15 : decode cX3_one 15 = .ok (.iadd, 1) := dk_96 (dk_at dksX3_one_0 15 rfl rfl)
theorem dX3_one_16 : decode cX3_one 16 = .ok (.ldc_w 386, 3) := dk_19 1 130 (dk_at dksX3_one_0 16 rfl rfl)
theorem dX3_one_19 : decode cX3_one 19 = .ok (.iastore, 1) := dk_79 (dk_at dksX3_one_0 19 rfl rfl)
theorem dX3_one_20 : decode cX3_one 20 = .ok (.return_, 1) := dk_177 (dk_at dksX3_one_0 20 rfl rfl)
abbrev cX3_timesBig : ByteArray := prog_27_method_12_code
def yX3_timesBig : MethodName := ⟨RX3, "timesBig", "(IJ)V"⟩
def dkwX3_timesBig_2 : List UInt8 := [22, 7, 136, 79, 22, 7, 16, 32, 125, 55, 4, 132, 6, 1, 167, 255, 205, 177]
abbrev dktX3_timesBig_2 : List UInt8 := dkwX3_timesBig_2 ++ []
def dkwX3_timesBig_1 : List UInt8 := [180, 0, 79, 21, 6, 46, 133, 20, 0, 107, 127, 32, 105, 22, 4, 97, 55, 7, 42, 180, 0, 79, 21, 6]
abbrev dktX3_timesBig_1 : List UInt8 := dkwX3_timesBig_1 ++ dktX3_timesBig_2
def dkwX3_timesBig_0 : List UInt8 := [9, 55, 4, 16, 44, 27, 104, 54, 6, 21, 6, 16, 44, 27, 104, 16, 44, 96, 162, 0, 45, 42]
abbrev dktX3_timesBig_0 : List UInt8 := dkwX3_timesBig_0 ++ dktX3_timesBig_1
theorem dksX3_timesBig_0 : cX3_timesBig.data.toList.drop 0 = dktX3_timesBig_0 := by decide +kernel
theorem dksX3_timesBig_1 : cX3_timesBig.data.toList.drop 22 = dktX3_timesBig_1 := dk_seg dksX3_timesBig_0 22 rfl rfl
theorem dksX3_timesBig_2 : cX3_timesBig.data.toList.drop 46 = dktX3_timesBig_2 := dk_seg dksX3_timesBig_1 24 rfl rfl
theorem dX3_timesBig_0 : decode cX3_timesBig 0 = .ok (.lconst 0, 1) := dk_9 (dk_at dksX3_timesBig_0 0 rfl rfl)
theorem dX3_timesBig_1 : decode cX3_timesBig 1 = .ok (.lstore 4, 2) := dk_55 4 (dk_at dksX3_timesBig_0 1 rfl rfl)
theorem dX3_timesBig_3 : decode cX3_timesBig 3 = .ok (.bipush 44, 2) := dk_16 44 (dk_at dksX3_timesBig_0 3 rfl rfl)
theorem dX3_timesBig_5 : decode cX3_timesBig 5 = .ok (.iload_n 1, 1) := dk_27 (dk_at dksX3_timesBig_0 5 rfl rfl)
theorem dX3_timesBig_6 : decode cX3_timesBig 6 = .ok (.imul, 1) := dk_104 (dk_at dksX3_timesBig_0 6 rfl rfl)
theorem dX3_timesBig_7 : decode cX3_timesBig 7 = .ok (.istore 6, 2) := dk_54 6 (dk_at dksX3_timesBig_0 7 rfl rfl)
theorem dX3_timesBig_9 : decode cX3_timesBig 9 = .ok (.iload 6, 2) := dk_21 6 (dk_at dksX3_timesBig_0 9 rfl rfl)
theorem dX3_timesBig_11 : decode cX3_timesBig 11 = .ok (.bipush 44, 2) := dk_16 44 (dk_at dksX3_timesBig_0 11 rfl rfl)
theorem dX3_timesBig_13 : decode cX3_timesBig 13 = .ok (.iload_n 1, 1) := dk_27 (dk_at dksX3_timesBig_0 13 rfl rfl)
theorem dX3_timesBig_14 : decode cX3_timesBig 14 = .ok (.imul, 1) := dk_104 (dk_at dksX3_timesBig_0 14 rfl rfl)
theorem dX3_timesBig_15 : decode cX3_timesBig 15 = .ok (.bipush 44, 2) := dk_16 44 (dk_at dksX3_timesBig_0 15 rfl rfl)
theorem dX3_timesBig_17 : decode cX3_timesBig 17 = .ok (.iadd, 1) := dk_96 (dk_at dksX3_timesBig_0 17 rfl rfl)
theorem dX3_timesBig_18 : decode cX3_timesBig 18 = .ok (.if_icmp .ge 45, 3) := dk_162 0 45 (dk_at dksX3_timesBig_0 18 rfl rfl)
theorem dX3_timesBig_21 : decode cX3_timesBig 21 = .ok (.aload_n 0, 1) := dk_42 (dk_at dksX3_timesBig_0 21 rfl rfl)
theorem dX3_timesBig_22 : decode cX3_timesBig 22 = .ok (.getfield 79, 3) := dk_180 0 79 (dk_at dksX3_timesBig_1 0 rfl rfl)
theorem dX3_timesBig_25 : decode cX3_timesBig 25 = .ok (.iload 6, 2) := dk_21 6 (dk_at dksX3_timesBig_1 3 rfl rfl)
theorem dX3_timesBig_27 : decode cX3_timesBig 27 = .ok (.iaload, 1) := dk_46 (dk_at dksX3_timesBig_1 5 rfl rfl)
theorem dX3_timesBig_28 : decode cX3_timesBig 28 = .ok (.i2l, 1) := dk_133 (dk_at dksX3_timesBig_1 6 rfl rfl)
theorem dX3_timesBig_29 : decode cX3_timesBig 29 = .ok (.ldc2_w 107, 3) := dk_20 0 107 (dk_at dksX3_timesBig_1 7 rfl rfl)
theorem dX3_timesBig_32 : decode cX3_timesBig 32 = .ok (.land, 1) := dk_127 (dk_at dksX3_timesBig_1 10 rfl rfl)
theorem dX3_timesBig_33 : decode cX3_timesBig 33 = .ok (.lload_n 2, 1) := dk_32 (dk_at dksX3_timesBig_1 11 rfl rfl)
theorem dX3_timesBig_34 : decode cX3_timesBig 34 = .ok (.lmul, 1) := dk_105 (dk_at dksX3_timesBig_1 12 rfl rfl)
theorem dX3_timesBig_35 : decode cX3_timesBig 35 = .ok (.lload 4, 2) := dk_22 4 (dk_at dksX3_timesBig_1 13 rfl rfl)
theorem dX3_timesBig_37 : decode cX3_timesBig 37 = .ok (.ladd, 1) := dk_97 (dk_at dksX3_timesBig_1 15 rfl rfl)
theorem dX3_timesBig_38 : decode cX3_timesBig 38 = .ok (.lstore 7, 2) := dk_55 7 (dk_at dksX3_timesBig_1 16 rfl rfl)
theorem dX3_timesBig_40 : decode cX3_timesBig 40 = .ok (.aload_n 0, 1) := dk_42 (dk_at dksX3_timesBig_1 18 rfl rfl)
theorem dX3_timesBig_41 : decode cX3_timesBig 41 = .ok (.getfield 79, 3) := dk_180 0 79 (dk_at dksX3_timesBig_1 19 rfl rfl)
theorem dX3_timesBig_44 : decode cX3_timesBig 44 = .ok (.iload 6, 2) := dk_21 6 (dk_at dksX3_timesBig_1 22 rfl rfl)
theorem dX3_timesBig_46 : decode cX3_timesBig 46 = .ok (.lload 7, 2) := dk_22 7 (dk_at dksX3_timesBig_2 0 rfl rfl)
theorem dX3_timesBig_48 : decode cX3_timesBig 48 = .ok (.l2i, 1) := dk_136 (dk_at dksX3_timesBig_2 2 rfl rfl)
theorem dX3_timesBig_49 : decode cX3_timesBig 49 = .ok (.iastore, 1) := dk_79 (dk_at dksX3_timesBig_2 3 rfl rfl)
theorem dX3_timesBig_50 : decode cX3_timesBig 50 = .ok (.lload 7, 2) := dk_22 7 (dk_at dksX3_timesBig_2 4 rfl rfl)
theorem dX3_timesBig_52 : decode cX3_timesBig 52 = .ok (.bipush 32, 2) := dk_16 32 (dk_at dksX3_timesBig_2 6 rfl rfl)
theorem dX3_timesBig_54 : decode cX3_timesBig 54 = .ok (.lushr, 1) := dk_125 (dk_at dksX3_timesBig_2 8 rfl rfl)
theorem dX3_timesBig_55 : decode cX3_timesBig 55 = .ok (.lstore 4, 2) := dk_55 4 (dk_at dksX3_timesBig_2 9 rfl rfl)
theorem dX3_timesBig_57 : decode cX3_timesBig 57 = .ok (.iinc 6 1, 3) := dk_132 6 1 (dk_at dksX3_timesBig_2 11 rfl rfl)
theorem dX3_timesBig_60 : decode cX3_timesBig 60 = .ok (.goto (-51), 3) := dk_167 255 205 (dk_at dksX3_timesBig_2 14 rfl rfl)
theorem dX3_timesBig_63 : decode cX3_timesBig 63 = .ok (.return_, 1) := dk_177 (dk_at dksX3_timesBig_2 17 rfl rfl)
abbrev cX3_parts : ByteArray := prog_27_method_75_code
def yX3_parts : MethodName := ⟨RX3, "parts", "(II)I"⟩
def dkwX3_parts_5 : List UInt8 := [167, 0, 4, 29, 172]
abbrev dktX3_parts_5 : List UInt8 := dkwX3_parts_5 ++ []
def dkwX3_parts_4 : List UInt8 := [167, 255, 189, 29, 42, 180, 0, 42, 27, 46, 160, 0, 17, 29, 42, 180, 0, 42, 28, 46, 160, 0, 7, 2]
abbrev dktX3_parts_4 : List UInt8 := dkwX3_parts_4 ++ dktX3_parts_5
def dkwX3_parts_3 : List UInt8 := [51, 42, 180, 0, 51, 16, 60, 28, 104, 29, 96, 49, 184, 0, 216, 148, 154, 0, 9, 132, 3, 1]
abbrev dktX3_parts_3 : List UInt8 := dkwX3_parts_3 ++ dktX3_parts_4
def dkwX3_parts_2 : List UInt8 := [180, 0, 33, 27, 51, 42, 180, 0, 51, 16, 60, 27, 104, 29, 96, 49, 184, 0, 216, 42, 180, 0, 33, 28]
abbrev dktX3_parts_2 : List UInt8 := dkwX3_parts_2 ++ dktX3_parts_3
def dkwX3_parts_1 : List UInt8 := [3, 62, 29, 42, 180, 0, 42, 27, 46, 162, 0, 63, 29, 42, 180, 0, 42, 28, 46, 162, 0, 53, 42]
abbrev dktX3_parts_1 : List UInt8 := dkwX3_parts_1 ++ dktX3_parts_2
def dkwX3_parts_0 : List UInt8 := [42, 3, 181, 0, 94, 42, 27, 182, 1, 107, 154, 0, 11, 42, 28, 182, 1, 107, 153, 0, 6, 16, 155, 172]
abbrev dktX3_parts_0 : List UInt8 := dkwX3_parts_0 ++ dktX3_parts_1
theorem dksX3_parts_0 : cX3_parts.data.toList.drop 0 = dktX3_parts_0 := by decide +kernel
theorem dksX3_parts_1 : cX3_parts.data.toList.drop 24 = dktX3_parts_1 := dk_seg dksX3_parts_0 24 rfl rfl
theorem dksX3_parts_2 : cX3_parts.data.toList.drop 47 = dktX3_parts_2 := dk_seg dksX3_parts_1 23 rfl rfl
theorem dksX3_parts_3 : cX3_parts.data.toList.drop 71 = dktX3_parts_3 := dk_seg dksX3_parts_2 24 rfl rfl
theorem dksX3_parts_4 : cX3_parts.data.toList.drop 93 = dktX3_parts_4 := dk_seg dksX3_parts_3 22 rfl rfl
theorem dksX3_parts_5 : cX3_parts.data.toList.drop 117 = dktX3_parts_5 := dk_seg dksX3_parts_4 24 rfl rfl
theorem dX3_parts_0 : decode cX3_parts 0 = .ok (.aload_n 0, 1) := dk_42 (dk_at dksX3_parts_0 0 rfl rfl)
theorem dX3_parts_1 : decode cX3_parts 1 = .ok (.iconst 0, 1) := dk_3 (dk_at dksX3_parts_0 1 rfl rfl)
theorem dX3_parts_2 : decode cX3_parts 2 = .ok (.putfield 94, 3) := dk_181 0 94 (dk_at dksX3_parts_0 2 rfl rfl)
theorem dX3_parts_5 : decode cX3_parts 5 = .ok (.aload_n 0, 1) := dk_42 (dk_at dksX3_parts_0 5 rfl rfl)
theorem dX3_parts_6 : decode cX3_parts 6 = .ok (.iload_n 1, 1) := dk_27 (dk_at dksX3_parts_0 6 rfl rfl)
theorem dX3_parts_7 : decode cX3_parts 7 = .ok (.invokevirtual 363, 3) := dk_182 1 107 (dk_at dksX3_parts_0 7 rfl rfl)
theorem dX3_parts_10 : decode cX3_parts 10 = .ok (.ifCond .ne 11, 3) := dk_154 0 11 (dk_at dksX3_parts_0 10 rfl rfl)
theorem dX3_parts_13 : decode cX3_parts 13 = .ok (.aload_n 0, 1) := dk_42 (dk_at dksX3_parts_0 13 rfl rfl)
theorem dX3_parts_14 : decode cX3_parts 14 = .ok (.iload_n 2, 1) := dk_28 (dk_at dksX3_parts_0 14 rfl rfl)
theorem dX3_parts_15 : decode cX3_parts 15 = .ok (.invokevirtual 363, 3) := dk_182 1 107 (dk_at dksX3_parts_0 15 rfl rfl)
theorem dX3_parts_18 : decode cX3_parts 18 = .ok (.ifCond .eq 6, 3) := dk_153 0 6 (dk_at dksX3_parts_0 18 rfl rfl)
theorem dX3_parts_21 : decode cX3_parts 21 = .ok (.bipush (-101), 2) := dk_16 155 (dk_at dksX3_parts_0 21 rfl rfl)
theorem dX3_parts_23 : decode cX3_parts 23 = .ok (.ireturn, 1) := dk_172 (dk_at dksX3_parts_0 23 rfl rfl)
theorem dX3_parts_24 : decode cX3_parts 24 = .ok (.iconst 0, 1) := dk_3 (dk_at dksX3_parts_1 0 rfl rfl)
theorem dX3_parts_25 : decode cX3_parts 25 = .ok (.istore_n 3, 1) := dk_62 (dk_at dksX3_parts_1 1 rfl rfl)
theorem dX3_parts_26 : decode cX3_parts 26 = .ok (.iload_n 3, 1) := dk_29 (dk_at dksX3_parts_1 2 rfl rfl)
theorem dX3_parts_27 : decode cX3_parts 27 = .ok (.aload_n 0, 1) := dk_42 (dk_at dksX3_parts_1 3 rfl rfl)
theorem dX3_parts_28 : decode cX3_parts 28 = .ok (.getfield 42, 3) := dk_180 0 42 (dk_at dksX3_parts_1 4 rfl rfl)
theorem dX3_parts_31 : decode cX3_parts 31 = .ok (.iload_n 1, 1) := dk_27 (dk_at dksX3_parts_1 7 rfl rfl)
theorem dX3_parts_32 : decode cX3_parts 32 = .ok (.iaload, 1) := dk_46 (dk_at dksX3_parts_1 8 rfl rfl)
theorem dX3_parts_33 : decode cX3_parts 33 = .ok (.if_icmp .ge 63, 3) := dk_162 0 63 (dk_at dksX3_parts_1 9 rfl rfl)
theorem dX3_parts_36 : decode cX3_parts 36 = .ok (.iload_n 3, 1) := dk_29 (dk_at dksX3_parts_1 12 rfl rfl)
theorem dX3_parts_37 : decode cX3_parts 37 = .ok (.aload_n 0, 1) := dk_42 (dk_at dksX3_parts_1 13 rfl rfl)
theorem dX3_parts_38 : decode cX3_parts 38 = .ok (.getfield 42, 3) := dk_180 0 42 (dk_at dksX3_parts_1 14 rfl rfl)
theorem dX3_parts_41 : decode cX3_parts 41 = .ok (.iload_n 2, 1) := dk_28 (dk_at dksX3_parts_1 17 rfl rfl)
theorem dX3_parts_42 : decode cX3_parts 42 = .ok (.iaload, 1) := dk_46 (dk_at dksX3_parts_1 18 rfl rfl)
theorem dX3_parts_43 : decode cX3_parts 43 = .ok (.if_icmp .ge 53, 3) := dk_162 0 53 (dk_at dksX3_parts_1 19 rfl rfl)
theorem dX3_parts_46 : decode cX3_parts 46 = .ok (.aload_n 0, 1) := dk_42 (dk_at dksX3_parts_1 22 rfl rfl)
theorem dX3_parts_47 : decode cX3_parts 47 = .ok (.getfield 33, 3) := dk_180 0 33 (dk_at dksX3_parts_2 0 rfl rfl)
theorem dX3_parts_50 : decode cX3_parts 50 = .ok (.iload_n 1, 1) := dk_27 (dk_at dksX3_parts_2 3 rfl rfl)
theorem dX3_parts_51 : decode cX3_parts 51 = .ok (.baload, 1) := dk_51 (dk_at dksX3_parts_2 4 rfl rfl)
theorem dX3_parts_52 : decode cX3_parts 52 = .ok (.aload_n 0, 1) := dk_42 (dk_at dksX3_parts_2 5 rfl rfl)
theorem dX3_parts_53 : decode cX3_parts 53 = .ok (.getfield 51, 3) := dk_180 0 51 (dk_at dksX3_parts_2 6 rfl rfl)
theorem dX3_parts_56 : decode cX3_parts 56 = .ok (.bipush 60, 2) := dk_16 60 (dk_at dksX3_parts_2 9 rfl rfl)
theorem dX3_parts_58 : decode cX3_parts 58 = .ok (.iload_n 1, 1) := dk_27 (dk_at dksX3_parts_2 11 rfl rfl)
theorem dX3_parts_59 : decode cX3_parts 59 = .ok (.imul, 1) := dk_104 (dk_at dksX3_parts_2 12 rfl rfl)
theorem dX3_parts_60 : decode cX3_parts 60 = .ok (.iload_n 3, 1) := dk_29 (dk_at dksX3_parts_2 13 rfl rfl)
theorem dX3_parts_61 : decode cX3_parts 61 = .ok (.iadd, 1) := dk_96 (dk_at dksX3_parts_2 14 rfl rfl)
theorem dX3_parts_62 : decode cX3_parts 62 = .ok (.daload, 1) := dk_49 (dk_at dksX3_parts_2 15 rfl rfl)
theorem dX3_parts_63 : decode cX3_parts 63 = .ok (.invokestatic 216, 3) := dk_184 0 216 (dk_at dksX3_parts_2 16 rfl rfl)
theorem dX3_parts_66 : decode cX3_parts 66 = .ok (.aload_n 0, 1) := dk_42 (dk_at dksX3_parts_2 19 rfl rfl)
theorem dX3_parts_67 : decode cX3_parts 67 = .ok (.getfield 33, 3) := dk_180 0 33 (dk_at dksX3_parts_2 20 rfl rfl)
theorem dX3_parts_70 : decode cX3_parts 70 = .ok (.iload_n 2, 1) := dk_28 (dk_at dksX3_parts_2 23 rfl rfl)
theorem dX3_parts_71 : decode cX3_parts 71 = .ok (.baload, 1) := dk_51 (dk_at dksX3_parts_3 0 rfl rfl)
theorem dX3_parts_72 : decode cX3_parts 72 = .ok (.aload_n 0, 1) := dk_42 (dk_at dksX3_parts_3 1 rfl rfl)
theorem dX3_parts_73 : decode cX3_parts 73 = .ok (.getfield 51, 3) := dk_180 0 51 (dk_at dksX3_parts_3 2 rfl rfl)
theorem dX3_parts_76 : decode cX3_parts 76 = .ok (.bipush 60, 2) := dk_16 60 (dk_at dksX3_parts_3 5 rfl rfl)
theorem dX3_parts_78 : decode cX3_parts 78 = .ok (.iload_n 2, 1) := dk_28 (dk_at dksX3_parts_3 7 rfl rfl)
theorem dX3_parts_79 : decode cX3_parts 79 = .ok (.imul, 1) := dk_104 (dk_at dksX3_parts_3 8 rfl rfl)
theorem dX3_parts_80 : decode cX3_parts 80 = .ok (.iload_n 3, 1) := dk_29 (dk_at dksX3_parts_3 9 rfl rfl)
theorem dX3_parts_81 : decode cX3_parts 81 = .ok (.iadd, 1) := dk_96 (dk_at dksX3_parts_3 10 rfl rfl)
theorem dX3_parts_82 : decode cX3_parts 82 = .ok (.daload, 1) := dk_49 (dk_at dksX3_parts_3 11 rfl rfl)
theorem dX3_parts_83 : decode cX3_parts 83 = .ok (.invokestatic 216, 3) := dk_184 0 216 (dk_at dksX3_parts_3 12 rfl rfl)
theorem dX3_parts_86 : decode cX3_parts 86 = .ok (.lcmp, 1) := dk_148 (dk_at dksX3_parts_3 15 rfl rfl)
theorem dX3_parts_87 : decode cX3_parts 87 = .ok (.ifCond .ne 9, 3) := dk_154 0 9 (dk_at dksX3_parts_3 16 rfl rfl)
theorem dX3_parts_90 : decode cX3_parts 90 = .ok (.iinc 3 1, 3) := dk_132 3 1 (dk_at dksX3_parts_3 19 rfl rfl)
theorem dX3_parts_93 : decode cX3_parts 93 = .ok (.goto (-67), 3) := dk_167 255 189 (dk_at dksX3_parts_4 0 rfl rfl)
theorem dX3_parts_96 : decode cX3_parts 96 = .ok (.iload_n 3, 1) := dk_29 (dk_at dksX3_parts_4 3 rfl rfl)
theorem dX3_parts_97 : decode cX3_parts 97 = .ok (.aload_n 0, 1) := dk_42 (dk_at dksX3_parts_4 4 rfl rfl)
theorem dX3_parts_98 : decode cX3_parts 98 = .ok (.getfield 42, 3) := dk_180 0 42 (dk_at dksX3_parts_4 5 rfl rfl)
theorem dX3_parts_101 : decode cX3_parts 101 = .ok (.iload_n 1, 1) := dk_27 (dk_at dksX3_parts_4 8 rfl rfl)
theorem dX3_parts_102 : decode cX3_parts 102 = .ok (.iaload, 1) := dk_46 (dk_at dksX3_parts_4 9 rfl rfl)
theorem dX3_parts_103 : decode cX3_parts 103 = .ok (.if_icmp .ne 17, 3) := dk_160 0 17 (dk_at dksX3_parts_4 10 rfl rfl)
theorem dX3_parts_106 : decode cX3_parts 106 = .ok (.iload_n 3, 1) := dk_29 (dk_at dksX3_parts_4 13 rfl rfl)
theorem dX3_parts_107 : decode cX3_parts 107 = .ok (.aload_n 0, 1) := dk_42 (dk_at dksX3_parts_4 14 rfl rfl)
theorem dX3_parts_108 : decode cX3_parts 108 = .ok (.getfield 42, 3) := dk_180 0 42 (dk_at dksX3_parts_4 15 rfl rfl)
theorem dX3_parts_111 : decode cX3_parts 111 = .ok (.iload_n 2, 1) := dk_28 (dk_at dksX3_parts_4 18 rfl rfl)
theorem dX3_parts_112 : decode cX3_parts 112 = .ok (.iaload, 1) := dk_46 (dk_at dksX3_parts_4 19 rfl rfl)
theorem dX3_parts_113 : decode cX3_parts 113 = .ok (.if_icmp .ne 7, 3) := dk_160 0 7 (dk_at dksX3_parts_4 20 rfl rfl)
theorem dX3_parts_116 : decode cX3_parts 116 = .ok (.iconst (-1), 1) := dk_2 (dk_at dksX3_parts_4 23 rfl rfl)
theorem dX3_parts_117 : decode cX3_parts 117 = .ok (.goto 4, 3) := dk_167 0 4 (dk_at dksX3_parts_5 0 rfl rfl)
theorem dX3_parts_120 : decode cX3_parts 120 = .ok (.iload_n 3, 1) := dk_29 (dk_at dksX3_parts_5 3 rfl rfl)
theorem dX3_parts_121 : decode cX3_parts 121 = .ok (.ireturn, 1) := dk_172 (dk_at dksX3_parts_5 4 rfl rfl)
abbrev cX3_clear : ByteArray := prog_27_method_76_code
def yX3_clear : MethodName := ⟨RX3, "clear", "()I"⟩
def dkwX3_clear_0 : List UInt8 := [42, 3, 181, 0, 94, 42, 180, 1, 100, 60, 42, 3, 181, 1, 100, 27, 172]
abbrev dktX3_clear_0 : List UInt8 := dkwX3_clear_0 ++ []
theorem dksX3_clear_0 : cX3_clear.data.toList.drop 0 = dktX3_clear_0 := by decide +kernel
theorem dX3_clear_0 : decode cX3_clear 0 = .ok (.aload_n 0, 1) := dk_42 (dk_at dksX3_clear_0 0 rfl rfl)
theorem dX3_clear_1 : decode cX3_clear 1 = .ok (.iconst 0, 1) := dk_3 (dk_at dksX3_clear_0 1 rfl rfl)
theorem dX3_clear_2 : decode cX3_clear 2 = .ok (.putfield 94, 3) := dk_181 0 94 (dk_at dksX3_clear_0 2 rfl rfl)
theorem dX3_clear_5 : decode cX3_clear 5 = .ok (.aload_n 0, 1) := dk_42 (dk_at dksX3_clear_0 5 rfl rfl)
theorem dX3_clear_6 : decode cX3_clear 6 = .ok (.getfield 356, 3) := dk_180 1 100 (dk_at dksX3_clear_0 6 rfl rfl)
theorem dX3_clear_9 : decode cX3_clear 9 = .ok (.istore_n 1, 1) := dk_60 (dk_at dksX3_clear_0 9 rfl rfl)
theorem dX3_clear_10 : decode cX3_clear 10 = .ok (.aload_n 0, 1) := dk_42 (dk_at dksX3_clear_0 10 rfl rfl)
theorem dX3_clear_11 : decode cX3_clear 11 = .ok (.iconst 0, 1) := dk_3 (dk_at dksX3_clear_0 11 rfl rfl)
theorem dX3_clear_12 : decode cX3_clear 12 = .ok (.putfield 356, 3) := dk_181 1 100 (dk_at dksX3_clear_0 12 rfl rfl)
theorem dX3_clear_15 : decode cX3_clear 15 = .ok (.iload_n 1, 1) := dk_27 (dk_at dksX3_clear_0 15 rfl rfl)
theorem dX3_clear_16 : decode cX3_clear 16 = .ok (.ireturn, 1) := dk_172 (dk_at dksX3_clear_0 16 rfl rfl)
abbrev cX3_compare : ByteArray := prog_27_method_77_code
def yX3_compare : MethodName := ⟨RX3, "compare", "(IJ)I"⟩
def dkwX3_compare_3 : List UInt8 := [182, 1, 142, 42, 3, 24, 4, 119, 182, 0, 158, 42, 3, 182, 0, 136, 172]
abbrev dktX3_compare_3 : List UInt8 := dkwX3_compare_3 ++ []
def dkwX3_compare_2 : List UInt8 := [16, 154, 172, 42, 42, 27, 182, 0, 103, 181, 0, 94, 42, 180, 0, 94, 153, 0, 5, 3, 172, 42, 3, 27]
abbrev dktX3_compare_2 : List UInt8 := dkwX3_compare_2 ++ dktX3_compare_3
def dkwX3_compare_1 : List UInt8 := [184, 0, 154, 57, 4, 24, 4, 20, 1, 138, 151, 157, 0, 12, 24, 4, 20, 1, 140, 152, 156, 0, 6]
abbrev dktX3_compare_1 : List UInt8 := dkwX3_compare_1 ++ dktX3_compare_2
def dkwX3_compare_0 : List UInt8 := [42, 3, 181, 0, 94, 32, 16, 52, 123, 20, 0, 119, 127, 20, 0, 119, 148, 154, 0, 6, 16, 154, 172, 32]
abbrev dktX3_compare_0 : List UInt8 := dkwX3_compare_0 ++ dktX3_compare_1
theorem dksX3_compare_0 : cX3_compare.data.toList.drop 0 = dktX3_compare_0 := by decide +kernel
theorem dksX3_compare_1 : cX3_compare.data.toList.drop 24 = dktX3_compare_1 := dk_seg dksX3_compare_0 24 rfl rfl
theorem dksX3_compare_2 : cX3_compare.data.toList.drop 47 = dktX3_compare_2 := dk_seg dksX3_compare_1 23 rfl rfl
theorem dksX3_compare_3 : cX3_compare.data.toList.drop 71 = dktX3_compare_3 := dk_seg dksX3_compare_2 24 rfl rfl
theorem dX3_compare_0 : decode cX3_compare 0 = .ok (.aload_n 0, 1) := dk_42 (dk_at dksX3_compare_0 0 rfl rfl)
theorem dX3_compare_1 : decode cX3_compare 1 = .ok (.iconst 0, 1) := dk_3 (dk_at dksX3_compare_0 1 rfl rfl)
theorem dX3_compare_2 : decode cX3_compare 2 = .ok (.putfield 94, 3) := dk_181 0 94 (dk_at dksX3_compare_0 2 rfl rfl)
theorem dX3_compare_5 : decode cX3_compare 5 = .ok (.lload_n 2, 1) := dk_32 (dk_at dksX3_compare_0 5 rfl rfl)
theorem dX3_compare_6 : decode cX3_compare 6 = .ok (.bipush 52, 2) := dk_16 52 (dk_at dksX3_compare_0 6 rfl rfl)
theorem dX3_compare_8 : decode cX3_compare 8 = .ok (.lshr, 1) := dk_123 (dk_at dksX3_compare_0 8 rfl rfl)
theorem dX3_compare_9 : decode cX3_compare 9 = .ok (.ldc2_w 119, 3) := dk_20 0 119 (dk_at dksX3_compare_0 9 rfl rfl)
theorem dX3_compare_12 : decode cX3_compare 12 = .ok (.land, 1) := dk_127 (dk_at dksX3_compare_0 12 rfl rfl)
theorem dX3_compare_13 : decode cX3_compare 13 = .ok (.ldc2_w 119, 3) := dk_20 0 119 (dk_at dksX3_compare_0 13 rfl rfl)
theorem dX3_compare_16 : decode cX3_compare 16 = .ok (.lcmp, 1) := dk_148 (dk_at dksX3_compare_0 16 rfl rfl)
theorem dX3_compare_17 : decode cX3_compare 17 = .ok (.ifCond .ne 6, 3) := dk_154 0 6 (dk_at dksX3_compare_0 17 rfl rfl)
theorem dX3_compare_20 : decode cX3_compare 20 = .ok (.bipush (-102), 2) := dk_16 154 (dk_at dksX3_compare_0 20 rfl rfl)
theorem dX3_compare_22 : decode cX3_compare 22 = .ok (.ireturn, 1) := dk_172 (dk_at dksX3_compare_0 22 rfl rfl)
theorem dX3_compare_23 : decode cX3_compare 23 = .ok (.lload_n 2, 1) := dk_32 (dk_at dksX3_compare_0 23 rfl rfl)
theorem dX3_compare_24 : decode cX3_compare 24 = .ok (.invokestatic 154, 3) := dk_184 0 154 (dk_at dksX3_compare_1 0 rfl rfl)
theorem dX3_compare_27 : decode cX3_compare 27 = .ok (.dstore 4, 2) := dk_57 4 (dk_at dksX3_compare_1 3 rfl rfl)
theorem dX3_compare_29 : decode cX3_compare 29 = .ok (.dload 4, 2) := dk_24 4 (dk_at dksX3_compare_1 5 rfl rfl)
theorem dX3_compare_31 : decode cX3_compare 31 = .ok (.ldc2_w 394, 3) := dk_20 1 138 (dk_at dksX3_compare_1 7 rfl rfl)
theorem dX3_compare_34 : decode cX3_compare 34 = .ok (.dcmp .l, 1) := dk_151 (dk_at dksX3_compare_1 10 rfl rfl)
theorem dX3_compare_35 : decode cX3_compare 35 = .ok (.ifCond .gt 12, 3) := dk_157 0 12 (dk_at dksX3_compare_1 11 rfl rfl)
theorem dX3_compare_38 : decode cX3_compare 38 = .ok (.dload 4, 2) := dk_24 4 (dk_at dksX3_compare_1 14 rfl rfl)
theorem dX3_compare_40 : decode cX3_compare 40 = .ok (.ldc2_w 396, 3) := dk_20 1 140 (dk_at dksX3_compare_1 16 rfl rfl)
theorem dX3_compare_43 : decode cX3_compare 43 = .ok (.dcmp .g, 1) := dk_152 (dk_at dksX3_compare_1 19 rfl rfl)
theorem dX3_compare_44 : decode cX3_compare 44 = .ok (.ifCond .ge 6, 3) := dk_156 0 6 (dk_at dksX3_compare_1 20 rfl rfl)
theorem dX3_compare_47 : decode cX3_compare 47 = .ok (.bipush (-102), 2) := dk_16 154 (dk_at dksX3_compare_2 0 rfl rfl)
theorem dX3_compare_49 : decode cX3_compare 49 = .ok (.ireturn, 1) := dk_172 (dk_at dksX3_compare_2 2 rfl rfl)
theorem dX3_compare_50 : decode cX3_compare 50 = .ok (.aload_n 0, 1) := dk_42 (dk_at dksX3_compare_2 3 rfl rfl)
theorem dX3_compare_51 : decode cX3_compare 51 = .ok (.aload_n 0, 1) := dk_42 (dk_at dksX3_compare_2 4 rfl rfl)
theorem dX3_compare_52 : decode cX3_compare 52 = .ok (.iload_n 1, 1) := dk_27 (dk_at dksX3_compare_2 5 rfl rfl)
theorem dX3_compare_53 : decode cX3_compare 53 = .ok (.invokevirtual 103, 3) := dk_182 0 103 (dk_at dksX3_compare_2 6 rfl rfl)
theorem dX3_compare_56 : decode cX3_compare 56 = .ok (.putfield 94, 3) := dk_181 0 94 (dk_at dksX3_compare_2 9 rfl rfl)
theorem dX3_compare_59 : decode cX3_compare 59 = .ok (.aload_n 0, 1) := dk_42 (dk_at dksX3_compare_2 12 rfl rfl)
theorem dX3_compare_60 : decode cX3_compare 60 = .ok (.getfield 94, 3) := dk_180 0 94 (dk_at dksX3_compare_2 13 rfl rfl)
theorem dX3_compare_63 : decode cX3_compare 63 = .ok (.ifCond .eq 5, 3) := dk_153 0 5 (dk_at dksX3_compare_2 16 rfl rfl)
theorem dX3_compare_66 : decode cX3_compare 66 = .ok (.iconst 0, 1) := dk_3 (dk_at dksX3_compare_2 19 rfl rfl)
theorem dX3_compare_67 : decode cX3_compare 67 = .ok (.ireturn, 1) := dk_172 (dk_at dksX3_compare_2 20 rfl rfl)
theorem dX3_compare_68 : decode cX3_compare 68 = .ok (.aload_n 0, 1) := dk_42 (dk_at dksX3_compare_2 21 rfl rfl)
theorem dX3_compare_69 : decode cX3_compare 69 = .ok (.iconst 0, 1) := dk_3 (dk_at dksX3_compare_2 22 rfl rfl)
theorem dX3_compare_70 : decode cX3_compare 70 = .ok (.iload_n 1, 1) := dk_27 (dk_at dksX3_compare_2 23 rfl rfl)
theorem dX3_compare_71 : decode cX3_compare 71 = .ok (.invokevirtual 398, 3) := dk_182 1 142 (dk_at dksX3_compare_3 0 rfl rfl)
theorem dX3_compare_74 : decode cX3_compare 74 = .ok (.aload_n 0, 1) := dk_42 (dk_at dksX3_compare_3 3 rfl rfl)
theorem dX3_compare_75 : decode cX3_compare 75 = .ok (.iconst 0, 1) := dk_3 (dk_at dksX3_compare_3 4 rfl rfl)
theorem dX3_compare_76 : decode cX3_compare 76 = .ok (.dload 4, 2) := dk_24 4 (dk_at dksX3_compare_3 5 rfl rfl)
theorem dX3_compare_78 : decode cX3_compare 78 = .ok (.dneg, 1) := dk_119 (dk_at dksX3_compare_3 7 rfl rfl)
theorem dX3_compare_79 : decode cX3_compare 79 = .ok (.invokevirtual 158, 3) := dk_182 0 158 (dk_at dksX3_compare_3 8 rfl rfl)
theorem dX3_compare_82 : decode cX3_compare 82 = .ok (.aload_n 0, 1) := dk_42 (dk_at dksX3_compare_3 11 rfl rfl)
theorem dX3_compare_83 : decode cX3_compare 83 = .ok (.iconst 0, 1) := dk_3 (dk_at dksX3_compare_3 12 rfl rfl)
theorem dX3_compare_84 : decode cX3_compare 84 = .ok (.invokevirtual 136, 3) := dk_182 0 136 (dk_at dksX3_compare_3 13 rfl rfl)
theorem dX3_compare_87 : decode cX3_compare 87 = .ok (.ireturn, 1) := dk_172 (dk_at dksX3_compare_3 16 rfl rfl)
abbrev cX3_sumLedger : ByteArray := prog_27_method_19_code
def yX3_sumLedger : MethodName := ⟨RX3, "sumLedger", "(II)V"⟩
def dkwX3_sumLedger_1 : List UInt8 := [16, 60, 28, 104, 29, 96, 49, 182, 0, 158, 132, 3, 1, 167, 255, 227, 177]
abbrev dktX3_sumLedger_1 : List UInt8 := dkwX3_sumLedger_1 ++ []
def dkwX3_sumLedger_0 : List UInt8 := [42, 27, 182, 0, 109, 3, 62, 29, 42, 180, 0, 7, 28, 46, 162, 0, 25, 42, 27, 42, 180, 0, 17]
abbrev dktX3_sumLedger_0 : List UInt8 := dkwX3_sumLedger_0 ++ dktX3_sumLedger_1
theorem dksX3_sumLedger_0 : cX3_sumLedger.data.toList.drop 0 = dktX3_sumLedger_0 := by decide +kernel
theorem dksX3_sumLedger_1 : cX3_sumLedger.data.toList.drop 23 = dktX3_sumLedger_1 := dk_seg dksX3_sumLedger_0 23 rfl rfl
theorem dX3_sumLedger_0 : decode cX3_sumLedger 0 = .ok (.aload_n 0, 1) := dk_42 (dk_at dksX3_sumLedger_0 0 rfl rfl)
theorem dX3_sumLedger_1 : decode cX3_sumLedger 1 = .ok (.iload_n 1, 1) := dk_27 (dk_at dksX3_sumLedger_0 1 rfl rfl)
theorem dX3_sumLedger_2 : decode cX3_sumLedger 2 = .ok (.invokevirtual 109, 3) := dk_182 0 109 (dk_at dksX3_sumLedger_0 2 rfl rfl)
theorem dX3_sumLedger_5 : decode cX3_sumLedger 5 = .ok (.iconst 0, 1) := dk_3 (dk_at dksX3_sumLedger_0 5 rfl rfl)
theorem dX3_sumLedger_6 : decode cX3_sumLedger 6 = .ok (.istore_n 3, 1) := dk_62 (dk_at dksX3_sumLedger_0 6 rfl rfl)
theorem dX3_sumLedger_7 : decode cX3_sumLedger 7 = .ok (.iload_n 3, 1) := dk_29 (dk_at dksX3_sumLedger_0 7 rfl rfl)
theorem dX3_sumLedger_8 : decode cX3_sumLedger 8 = .ok (.aload_n 0, 1) := dk_42 (dk_at dksX3_sumLedger_0 8 rfl rfl)
theorem dX3_sumLedger_9 : decode cX3_sumLedger 9 = .ok (.getfield 7, 3) := dk_180 0 7 (dk_at dksX3_sumLedger_0 9 rfl rfl)
theorem dX3_sumLedger_12 : decode cX3_sumLedger 12 = .ok (.iload_n 2, 1) := dk_28 (dk_at dksX3_sumLedger_0 12 rfl rfl)
theorem dX3_sumLedger_13 : decode cX3_sumLedger 13 = .ok (.iaload, 1) := dk_46 (dk_at dksX3_sumLedger_0 13 rfl rfl)
theorem dX3_sumLedger_14 : decode cX3_sumLedger 14 = .ok (.if_icmp .ge 25, 3) := dk_162 0 25 (dk_at dksX3_sumLedger_0 14 rfl rfl)
theorem dX3_sumLedger_17 : decode cX3_sumLedger 17 = .ok (.aload_n 0, 1) := dk_42 (dk_at dksX3_sumLedger_0 17 rfl rfl)
theorem dX3_sumLedger_18 : decode cX3_sumLedger 18 = .ok (.iload_n 1, 1) := dk_27 (dk_at dksX3_sumLedger_0 18 rfl rfl)
theorem dX3_sumLedger_19 : decode cX3_sumLedger 19 = .ok (.aload_n 0, 1) := dk_42 (dk_at dksX3_sumLedger_0 19 rfl rfl)
theorem dX3_sumLedger_20 : decode cX3_sumLedger 20 = .ok (.getfield 17, 3) := dk_180 0 17 (dk_at dksX3_sumLedger_0 20 rfl rfl)
theorem dX3_sumLedger_23 : decode cX3_sumLedger 23 = .ok (.bipush 60, 2) := dk_16 60 (dk_at dksX3_sumLedger_1 0 rfl rfl)
theorem dX3_sumLedger_25 : decode cX3_sumLedger 25 = .ok (.iload_n 2, 1) := dk_28 (dk_at dksX3_sumLedger_1 2 rfl rfl)
theorem dX3_sumLedger_26 : decode cX3_sumLedger 26 = .ok (.imul, 1) := dk_104 (dk_at dksX3_sumLedger_1 3 rfl rfl)
theorem dX3_sumLedger_27 : decode cX3_sumLedger 27 = .ok (.iload_n 3, 1) := dk_29 (dk_at dksX3_sumLedger_1 4 rfl rfl)
theorem dX3_sumLedger_28 : decode cX3_sumLedger 28 = .ok (.iadd, 1) := dk_96 (dk_at dksX3_sumLedger_1 5 rfl rfl)
theorem dX3_sumLedger_29 : decode cX3_sumLedger 29 = .ok (.daload, 1) := dk_49 (dk_at dksX3_sumLedger_1 6 rfl rfl)
theorem dX3_sumLedger_30 : decode cX3_sumLedger 30 = .ok (.invokevirtual 158, 3) := dk_182 0 158 (dk_at dksX3_sumLedger_1 7 rfl rfl)
theorem dX3_sumLedger_33 : decode cX3_sumLedger 33 = .ok (.iinc 3 1, 3) := dk_132 3 1 (dk_at dksX3_sumLedger_1 10 rfl rfl)
theorem dX3_sumLedger_36 : decode cX3_sumLedger 36 = .ok (.goto (-29), 3) := dk_167 255 227 (dk_at dksX3_sumLedger_1 13 rfl rfl)
theorem dX3_sumLedger_39 : decode cX3_sumLedger 39 = .ok (.return_, 1) := dk_177 (dk_at dksX3_sumLedger_1 16 rfl rfl)
abbrev cX3_rounded : ByteArray := prog_27_method_79_code
def yX3_rounded : MethodName := ⟨RX3, "rounded", "(I)J"⟩
def dkwX3_rounded_1 : List UInt8 := [27, 51, 42, 27, 182, 1, 145, 184, 0, 216, 173]
abbrev dktX3_rounded_1 : List UInt8 := dkwX3_rounded_1 ++ []
def dkwX3_rounded_0 : List UInt8 := [42, 42, 27, 182, 0, 103, 181, 0, 94, 42, 180, 0, 94, 153, 0, 7, 9, 167, 0, 17, 42, 180, 0, 13]
abbrev dktX3_rounded_0 : List UInt8 := dkwX3_rounded_0 ++ dktX3_rounded_1
theorem dksX3_rounded_0 : cX3_rounded.data.toList.drop 0 = dktX3_rounded_0 := by decide +kernel
theorem dksX3_rounded_1 : cX3_rounded.data.toList.drop 24 = dktX3_rounded_1 := dk_seg dksX3_rounded_0 24 rfl rfl
theorem dX3_rounded_0 : decode cX3_rounded 0 = .ok (.aload_n 0, 1) := dk_42 (dk_at dksX3_rounded_0 0 rfl rfl)
theorem dX3_rounded_1 : decode cX3_rounded 1 = .ok (.aload_n 0, 1) := dk_42 (dk_at dksX3_rounded_0 1 rfl rfl)
theorem dX3_rounded_2 : decode cX3_rounded 2 = .ok (.iload_n 1, 1) := dk_27 (dk_at dksX3_rounded_0 2 rfl rfl)
theorem dX3_rounded_3 : decode cX3_rounded 3 = .ok (.invokevirtual 103, 3) := dk_182 0 103 (dk_at dksX3_rounded_0 3 rfl rfl)
theorem dX3_rounded_6 : decode cX3_rounded 6 = .ok (.putfield 94, 3) := dk_181 0 94 (dk_at dksX3_rounded_0 6 rfl rfl)
theorem dX3_rounded_9 : decode cX3_rounded 9 = .ok (.aload_n 0, 1) := dk_42 (dk_at dksX3_rounded_0 9 rfl rfl)
theorem dX3_rounded_10 : decode cX3_rounded 10 = .ok (.getfield 94, 3) := dk_180 0 94 (dk_at dksX3_rounded_0 10 rfl rfl)
theorem dX3_rounded_13 : decode cX3_rounded 13 = .ok (.ifCond .eq 7, 3) := dk_153 0 7 (dk_at dksX3_rounded_0 13 rfl rfl)
theorem dX3_rounded_16 : decode cX3_rounded 16 = .ok (.lconst 0, 1) := dk_9 (dk_at dksX3_rounded_0 16 rfl rfl)
theorem dX3_rounded_17 : decode cX3_rounded 17 = .ok (.goto 17, 3) := dk_167 0 17 (dk_at dksX3_rounded_0 17 rfl rfl)
theorem dX3_rounded_20 : decode cX3_rounded 20 = .ok (.aload_n 0, 1) := dk_42 (dk_at dksX3_rounded_0 20 rfl rfl)
theorem dX3_rounded_21 : decode cX3_rounded 21 = .ok (.getfield 13, 3) := dk_180 0 13 (dk_at dksX3_rounded_0 21 rfl rfl)
theorem dX3_rounded_24 : decode cX3_rounded 24 = .ok (.iload_n 1, 1) := dk_27 (dk_at dksX3_rounded_1 0 rfl rfl)
theorem dX3_rounded_25 : decode cX3_rounded 25 = .ok (.baload, 1) := dk_51 (dk_at dksX3_rounded_1 1 rfl rfl)
theorem dX3_rounded_26 : decode cX3_rounded 26 = .ok (.aload_n 0, 1) := dk_42 (dk_at dksX3_rounded_1 2 rfl rfl)
theorem dX3_rounded_27 : decode cX3_rounded 27 = .ok (.iload_n 1, 1) := dk_27 (dk_at dksX3_rounded_1 3 rfl rfl)
theorem dX3_rounded_28 : decode cX3_rounded 28 = .ok (.invokevirtual 401, 3) := dk_182 1 145 (dk_at dksX3_rounded_1 4 rfl rfl)
theorem dX3_rounded_31 : decode cX3_rounded 31 = .ok (.invokestatic 216, 3) := dk_184 0 216 (dk_at dksX3_rounded_1 7 rfl rfl)
theorem dX3_rounded_34 : decode cX3_rounded 34 = .ok (.lreturn, 1) := dk_173 (dk_at dksX3_rounded_1 10 rfl rfl)
abbrev cX3_exactOf : ByteArray := prog_27_method_78_code
def yX3_exactOf : MethodName := ⟨RX3, "exactOf", "(I)D"⟩
def dkwX3_exactOf_0 : List UInt8 := [42, 3, 27, 182, 1, 142, 42, 3, 42, 180, 0, 13, 27, 51, 182, 1, 122, 175]
abbrev dktX3_exactOf_0 : List UInt8 := dkwX3_exactOf_0 ++ []
theorem dksX3_exactOf_0 : cX3_exactOf.data.toList.drop 0 = dktX3_exactOf_0 := by decide +kernel
theorem dX3_exactOf_0 : decode cX3_exactOf 0 = .ok (.aload_n 0, 1) := dk_42 (dk_at dksX3_exactOf_0 0 rfl rfl)
theorem dX3_exactOf_1 : decode cX3_exactOf 1 = .ok (.iconst 0, 1) := dk_3 (dk_at dksX3_exactOf_0 1 rfl rfl)
theorem dX3_exactOf_2 : decode cX3_exactOf 2 = .ok (.iload_n 1, 1) := dk_27 (dk_at dksX3_exactOf_0 2 rfl rfl)
theorem dX3_exactOf_3 : decode cX3_exactOf 3 = .ok (.invokevirtual 398, 3) := dk_182 1 142 (dk_at dksX3_exactOf_0 3 rfl rfl)
theorem dX3_exactOf_6 : decode cX3_exactOf 6 = .ok (.aload_n 0, 1) := dk_42 (dk_at dksX3_exactOf_0 6 rfl rfl)
theorem dX3_exactOf_7 : decode cX3_exactOf 7 = .ok (.iconst 0, 1) := dk_3 (dk_at dksX3_exactOf_0 7 rfl rfl)
theorem dX3_exactOf_8 : decode cX3_exactOf 8 = .ok (.aload_n 0, 1) := dk_42 (dk_at dksX3_exactOf_0 8 rfl rfl)
theorem dX3_exactOf_9 : decode cX3_exactOf 9 = .ok (.getfield 13, 3) := dk_180 0 13 (dk_at dksX3_exactOf_0 9 rfl rfl)
theorem dX3_exactOf_12 : decode cX3_exactOf 12 = .ok (.iload_n 1, 1) := dk_27 (dk_at dksX3_exactOf_0 12 rfl rfl)
theorem dX3_exactOf_13 : decode cX3_exactOf 13 = .ok (.baload, 1) := dk_51 (dk_at dksX3_exactOf_0 13 rfl rfl)
theorem dX3_exactOf_14 : decode cX3_exactOf 14 = .ok (.invokevirtual 378, 3) := dk_182 1 122 (dk_at dksX3_exactOf_0 14 rfl rfl)
theorem dX3_exactOf_17 : decode cX3_exactOf 17 = .ok (.dreturn, 1) := dk_175 (dk_at dksX3_exactOf_0 17 rfl rfl)
abbrev cX3_word : ByteArray := prog_27_method_80_code
def yX3_word : MethodName := ⟨RX3, "word", "(II)I"⟩
def dkwX3_word_2 : List UInt8 := [180, 0, 79, 28, 46, 172]
abbrev dktX3_word_2 : List UInt8 := dkwX3_word_2 ++ []
def dkwX3_word_1 : List UInt8 := [182, 0, 103, 181, 0, 94, 42, 180, 0, 94, 153, 0, 5, 3, 172, 42, 3, 27, 182, 1, 142, 42]
abbrev dktX3_word_1 : List UInt8 := dkwX3_word_1 ++ dktX3_word_2
def dkwX3_word_0 : List UInt8 := [42, 3, 181, 0, 94, 28, 133, 9, 20, 1, 148, 184, 0, 99, 154, 0, 6, 16, 154, 172, 42, 42, 27]
abbrev dktX3_word_0 : List UInt8 := dkwX3_word_0 ++ dktX3_word_1
theorem dksX3_word_0 : cX3_word.data.toList.drop 0 = dktX3_word_0 := by decide +kernel
theorem dksX3_word_1 : cX3_word.data.toList.drop 23 = dktX3_word_1 := dk_seg dksX3_word_0 23 rfl rfl
theorem dksX3_word_2 : cX3_word.data.toList.drop 45 = dktX3_word_2 := dk_seg dksX3_word_1 22 rfl rfl
theorem dX3_word_0 : decode cX3_word 0 = .ok (.aload_n 0, 1) := dk_42 (dk_at dksX3_word_0 0 rfl rfl)
theorem dX3_word_1 : decode cX3_word 1 = .ok (.iconst 0, 1) := dk_3 (dk_at dksX3_word_0 1 rfl rfl)
theorem dX3_word_2 : decode cX3_word 2 = .ok (.putfield 94, 3) := dk_181 0 94 (dk_at dksX3_word_0 2 rfl rfl)
theorem dX3_word_5 : decode cX3_word 5 = .ok (.iload_n 2, 1) := dk_28 (dk_at dksX3_word_0 5 rfl rfl)
theorem dX3_word_6 : decode cX3_word 6 = .ok (.i2l, 1) := dk_133 (dk_at dksX3_word_0 6 rfl rfl)
theorem dX3_word_7 : decode cX3_word 7 = .ok (.lconst 0, 1) := dk_9 (dk_at dksX3_word_0 7 rfl rfl)
theorem dX3_word_8 : decode cX3_word 8 = .ok (.ldc2_w 404, 3) := dk_20 1 148 (dk_at dksX3_word_0 8 rfl rfl)
theorem dX3_word_11 : decode cX3_word 11 = .ok (.invokestatic 99, 3) := dk_184 0 99 (dk_at dksX3_word_0 11 rfl rfl)
theorem dX3_word_14 : decode cX3_word 14 = .ok (.ifCond .ne 6, 3) := dk_154 0 6 (dk_at dksX3_word_0 14 rfl rfl)
theorem dX3_word_17 : decode cX3_word 17 = .ok (.bipush (-102), 2) := dk_16 154 (dk_at dksX3_word_0 17 rfl rfl)
theorem dX3_word_19 : decode cX3_word 19 = .ok (.ireturn, 1) := dk_172 (dk_at dksX3_word_0 19 rfl rfl)
theorem dX3_word_20 : decode cX3_word 20 = .ok (.aload_n 0, 1) := dk_42 (dk_at dksX3_word_0 20 rfl rfl)
theorem dX3_word_21 : decode cX3_word 21 = .ok (.aload_n 0, 1) := dk_42 (dk_at dksX3_word_0 21 rfl rfl)
theorem dX3_word_22 : decode cX3_word 22 = .ok (.iload_n 1, 1) := dk_27 (dk_at dksX3_word_0 22 rfl rfl)
theorem dX3_word_23 : decode cX3_word 23 = .ok (.invokevirtual 103, 3) := dk_182 0 103 (dk_at dksX3_word_1 0 rfl rfl)
theorem dX3_word_26 : decode cX3_word 26 = .ok (.putfield 94, 3) := dk_181 0 94 (dk_at dksX3_word_1 3 rfl rfl)
theorem dX3_word_29 : decode cX3_word 29 = .ok (.aload_n 0, 1) := dk_42 (dk_at dksX3_word_1 6 rfl rfl)
theorem dX3_word_30 : decode cX3_word 30 = .ok (.getfield 94, 3) := dk_180 0 94 (dk_at dksX3_word_1 7 rfl rfl)
theorem dX3_word_33 : decode cX3_word 33 = .ok (.ifCond .eq 5, 3) := dk_153 0 5 (dk_at dksX3_word_1 10 rfl rfl)
theorem dX3_word_36 : decode cX3_word 36 = .ok (.iconst 0, 1) := dk_3 (dk_at dksX3_word_1 13 rfl rfl)
theorem dX3_word_37 : decode cX3_word 37 = .ok (.ireturn, 1) := dk_172 (dk_at dksX3_word_1 14 rfl rfl)
theorem dX3_word_38 : decode cX3_word 38 = .ok (.aload_n 0, 1) := dk_42 (dk_at dksX3_word_1 15 rfl rfl)
theorem dX3_word_39 : decode cX3_word 39 = .ok (.iconst 0, 1) := dk_3 (dk_at dksX3_word_1 16 rfl rfl)
theorem dX3_word_40 : decode cX3_word 40 = .ok (.iload_n 1, 1) := dk_27 (dk_at dksX3_word_1 17 rfl rfl)
theorem dX3_word_41 : decode cX3_word 41 = .ok (.invokevirtual 398, 3) := dk_182 1 142 (dk_at dksX3_word_1 18 rfl rfl)
theorem dX3_word_44 : decode cX3_word 44 = .ok (.aload_n 0, 1) := dk_42 (dk_at dksX3_word_1 21 rfl rfl)
theorem dX3_word_45 : decode cX3_word 45 = .ok (.getfield 79, 3) := dk_180 0 79 (dk_at dksX3_word_2 0 rfl rfl)
theorem dX3_word_48 : decode cX3_word 48 = .ok (.iload_n 2, 1) := dk_28 (dk_at dksX3_word_2 3 rfl rfl)
theorem dX3_word_49 : decode cX3_word 49 = .ok (.iaload, 1) := dk_46 (dk_at dksX3_word_2 4 rfl rfl)
theorem dX3_word_50 : decode cX3_word 50 = .ok (.ireturn, 1) := dk_172 (dk_at dksX3_word_2 5 rfl rfl)
abbrev cX3_extreme : ByteArray := prog_27_method_85_code
def yX3_extreme : MethodName := ⟨RX3, "extreme", "(IZ)J"⟩
def dkwX3_extreme_4 : List UInt8 := [184, 1, 12, 74, 167, 255, 210, 42, 180, 0, 13, 27, 51, 41, 184, 0, 216, 173]
abbrev dktX3_extreme_4 : List UInt8 := dkwX3_extreme_4 ++ []
def dkwX3_extreme_3 : List UInt8 := [46, 182, 1, 158, 57, 5, 28, 153, 0, 12, 41, 24, 5, 184, 1, 16, 167, 0, 9, 41, 24, 5]
abbrev dktX3_extreme_3 : List UInt8 := dkwX3_extreme_3 ++ dktX3_extreme_4
def dkwX3_extreme_2 : List UInt8 := [182, 1, 158, 74, 42, 42, 180, 0, 7, 27, 46, 182, 1, 161, 153, 0, 39, 42, 27, 42, 180, 0, 7, 27]
abbrev dktX3_extreme_2 : List UInt8 := dkwX3_extreme_2 ++ dktX3_extreme_3
def dkwX3_extreme_1 : List UInt8 := [16, 7, 164, 0, 7, 20, 1, 153, 173, 42, 27, 182, 1, 155, 42, 27, 42, 180, 0, 7, 27, 46]
abbrev dktX3_extreme_1 : List UInt8 := dkwX3_extreme_1 ++ dktX3_extreme_2
def dkwX3_extreme_0 : List UInt8 := [42, 42, 27, 182, 0, 103, 181, 0, 94, 42, 180, 0, 94, 153, 0, 5, 9, 173, 42, 180, 0, 7, 27, 46]
abbrev dktX3_extreme_0 : List UInt8 := dkwX3_extreme_0 ++ dktX3_extreme_1
theorem dksX3_extreme_0 : cX3_extreme.data.toList.drop 0 = dktX3_extreme_0 := by decide +kernel
theorem dksX3_extreme_1 : cX3_extreme.data.toList.drop 24 = dktX3_extreme_1 := dk_seg dksX3_extreme_0 24 rfl rfl
theorem dksX3_extreme_2 : cX3_extreme.data.toList.drop 46 = dktX3_extreme_2 := dk_seg dksX3_extreme_1 22 rfl rfl
theorem dksX3_extreme_3 : cX3_extreme.data.toList.drop 70 = dktX3_extreme_3 := dk_seg dksX3_extreme_2 24 rfl rfl
theorem dksX3_extreme_4 : cX3_extreme.data.toList.drop 92 = dktX3_extreme_4 := dk_seg dksX3_extreme_3 22 rfl rfl
theorem dX3_extreme_0 : decode cX3_extreme 0 = .ok (.aload_n 0, 1) := dk_42 (dk_at dksX3_extreme_0 0 rfl rfl)
theorem dX3_extreme_1 : decode cX3_extreme 1 = .ok (.aload_n 0, 1) := dk_42 (dk_at dksX3_extreme_0 1 rfl rfl)
theorem dX3_extreme_2 : decode cX3_extreme 2 = .ok (.iload_n 1, 1) := dk_27 (dk_at dksX3_extreme_0 2 rfl rfl)
theorem dX3_extreme_3 : decode cX3_extreme 3 = .ok (.invokevirtual 103, 3) := dk_182 0 103 (dk_at dksX3_extreme_0 3 rfl rfl)
theorem dX3_extreme_6 : decode cX3_extreme 6 = .ok (.putfield 94, 3) := dk_181 0 94 (dk_at dksX3_extreme_0 6 rfl rfl)
theorem dX3_extreme_9 : decode cX3_extreme 9 = .ok (.aload_n 0, 1) := dk_42 (dk_at dksX3_extreme_0 9 rfl rfl)
theorem dX3_extreme_10 : decode cX3_extreme 10 = .ok (.getfield 94, 3) := dk_180 0 94 (dk_at dksX3_extreme_0 10 rfl rfl)
theorem dX3_extreme_13 : decode cX3_extreme 13 = .ok (.ifCond .eq 5, 3) := dk_153 0 5 (dk_at dksX3_extreme_0 13 rfl rfl)
theorem dX3_extreme_16 : decode cX3_extreme 16 = .ok (.lconst 0, 1) := dk_9 (dk_at dksX3_extreme_0 16 rfl rfl)
theorem dX3_extreme_17 : decode cX3_extreme 17 = .ok (.lreturn, 1) := dk_173 (dk_at dksX3_extreme_0 17 rfl rfl)
theorem dX3_extreme_18 : decode cX3_extreme 18 = .ok (.aload_n 0, 1) := dk_42 (dk_at dksX3_extreme_0 18 rfl rfl)
theorem dX3_extreme_19 : decode cX3_extreme 19 = .ok (.getfield 7, 3) := dk_180 0 7 (dk_at dksX3_extreme_0 19 rfl rfl)
theorem dX3_extreme_22 : decode cX3_extreme 22 = .ok (.iload_n 1, 1) := dk_27 (dk_at dksX3_extreme_0 22 rfl rfl)
theorem dX3_extreme_23 : decode cX3_extreme 23 = .ok (.iaload, 1) := dk_46 (dk_at dksX3_extreme_0 23 rfl rfl)
theorem dX3_extreme_24 : decode cX3_extreme 24 = .ok (.bipush 7, 2) := dk_16 7 (dk_at dksX3_extreme_1 0 rfl rfl)
theorem dX3_extreme_26 : decode cX3_extreme 26 = .ok (.if_icmp .le 7, 3) := dk_164 0 7 (dk_at dksX3_extreme_1 2 rfl rfl)
theorem dX3_extreme_29 : decode cX3_extreme 29 = .ok (.ldc2_w 409, 3) := dk_20 1 153 (dk_at dksX3_extreme_1 5 rfl rfl)
theorem dX3_extreme_32 : decode cX3_extreme 32 = .ok (.lreturn, 1) := dk_173 (dk_at dksX3_extreme_1 8 rfl rfl)
theorem dX3_extreme_33 : decode cX3_extreme 33 = .ok (.aload_n 0, 1) := dk_42 (dk_at dksX3_extreme_1 9 rfl rfl)
theorem dX3_extreme_34 : decode cX3_extreme 34 = .ok (.iload_n 1, 1) := dk_27 (dk_at dksX3_extreme_1 10 rfl rfl)
theorem dX3_extreme_35 : decode cX3_extreme 35 = .ok (.invokevirtual 411, 3) := dk_182 1 155 (dk_at dksX3_extreme_1 11 rfl rfl)
theorem dX3_extreme_38 : decode cX3_extreme 38 = .ok (.aload_n 0, 1) := dk_42 (dk_at dksX3_extreme_1 14 rfl rfl)
theorem dX3_extreme_39 : decode cX3_extreme 39 = .ok (.iload_n 1, 1) := dk_27 (dk_at dksX3_extreme_1 15 rfl rfl)
theorem dX3_extreme_40 : decode cX3_extreme 40 = .ok (.aload_n 0, 1) := dk_42 (dk_at dksX3_extreme_1 16 rfl rfl)
theorem dX3_extreme_41 : decode cX3_extreme 41 = .ok (.getfield 7, 3) := dk_180 0 7 (dk_at dksX3_extreme_1 17 rfl rfl)
theorem dX3_extreme_44 : decode cX3_extreme 44 = .ok (.iload_n 1, 1) := dk_27 (dk_at dksX3_extreme_1 20 rfl rfl)
theorem dX3_extreme_45 : decode cX3_extreme 45 = .ok (.iaload, 1) := dk_46 (dk_at dksX3_extreme_1 21 rfl rfl)
theorem dX3_extreme_46 : decode cX3_extreme 46 = .ok (.invokevirtual 414, 3) := dk_182 1 158 (dk_at dksX3_extreme_2 0 rfl rfl)
theorem dX3_extreme_49 : decode cX3_extreme 49 = .ok (.dstore_n 3, 1) := dk_74 (dk_at dksX3_extreme_2 3 rfl rfl)
theorem dX3_extreme_50 : decode cX3_extreme 50 = .ok (.aload_n 0, 1) := dk_42 (dk_at dksX3_extreme_2 4 rfl rfl)
theorem dX3_extreme_51 : decode cX3_extreme 51 = .ok (.aload_n 0, 1) := dk_42 (dk_at dksX3_extreme_2 5 rfl rfl)
theorem dX3_extreme_52 : decode cX3_extreme 52 = .ok (.getfield 7, 3) := dk_180 0 7 (dk_at dksX3_extreme_2 6 rfl rfl)
theorem dX3_extreme_55 : decode cX3_extreme 55 = .ok (.iload_n 1, 1) := dk_27 (dk_at dksX3_extreme_2 9 rfl rfl)
theorem dX3_extreme_56 : decode cX3_extreme 56 = .ok (.iaload, 1) := dk_46 (dk_at dksX3_extreme_2 10 rfl rfl)
theorem dX3_extreme_57 : decode cX3_extreme 57 = .ok (.invokevirtual 417, 3) := dk_182 1 161 (dk_at dksX3_extreme_2 11 rfl rfl)
theorem dX3_extreme_60 : decode cX3_extreme 60 = .ok (.ifCond .eq 39, 3) := dk_153 0 39 (dk_at dksX3_extreme_2 14 rfl rfl)
theorem dX3_extreme_63 : decode cX3_extreme 63 = .ok (.aload_n 0, 1) := dk_42 (dk_at dksX3_extreme_2 17 rfl rfl)
theorem dX3_extreme_64 : decode cX3_extreme 64 = .ok (.iload_n 1, 1) := dk_27 (dk_at dksX3_extreme_2 18 rfl rfl)
theorem dX3_extreme_65 : decode cX3_extreme 65 = .ok (.aload_n 0, 1) := dk_42 (dk_at dksX3_extreme_2 19 rfl rfl)
theorem dX3_extreme_66 : decode cX3_extreme 66 = .ok (.getfield 7, 3) := dk_180 0 7 (dk_at dksX3_extreme_2 20 rfl rfl)
theorem dX3_extreme_69 : decode cX3_extreme 69 = .ok (.iload_n 1, 1) := dk_27 (dk_at dksX3_extreme_2 23 rfl rfl)
theorem dX3_extreme_70 : decode cX3_extreme 70 = .ok (.iaload, 1) := dk_46 (dk_at dksX3_extreme_3 0 rfl rfl)
theorem dX3_extreme_71 : decode cX3_extreme 71 = .ok (.invokevirtual 414, 3) := dk_182 1 158 (dk_at dksX3_extreme_3 1 rfl rfl)
theorem dX3_extreme_74 : decode cX3_extreme 74 = .ok (.dstore 5, 2) := dk_57 5 (dk_at dksX3_extreme_3 4 rfl rfl)
theorem dX3_extreme_76 : decode cX3_extreme 76 = .ok (.iload_n 2, 1) := dk_28 (dk_at dksX3_extreme_3 6 rfl rfl)
theorem dX3_extreme_77 : decode cX3_extreme 77 = .ok (.ifCond .eq 12, 3) := dk_153 0 12 (dk_at dksX3_extreme_3 7 rfl rfl)
theorem dX3_extreme_80 : decode cX3_extreme 80 = .ok (.dload_n 3, 1) := dk_41 (dk_at dksX3_extreme_3 10 rfl rfl)
theorem dX3_extreme_81 : decode cX3_extreme 81 = .ok (.dload 5, 2) := dk_24 5 (dk_at dksX3_extreme_3 11 rfl rfl)
theorem dX3_extreme_83 : decode cX3_extreme 83 = .ok (.invokestatic 272, 3) := dk_184 1 16 (dk_at dksX3_extreme_3 13 rfl rfl)
theorem dX3_extreme_86 : decode cX3_extreme 86 = .ok (.goto 9, 3) := dk_167 0 9 (dk_at dksX3_extreme_3 16 rfl rfl)
theorem dX3_extreme_89 : decode cX3_extreme 89 = .ok (.dload_n 3, 1) := dk_41 (dk_at dksX3_extreme_3 19 rfl rfl)
theorem dX3_extreme_90 : decode cX3_extreme 90 = .ok (.dload 5, 2) := dk_24 5 (dk_at dksX3_extreme_3 20 rfl rfl)
theorem dX3_extreme_92 : decode cX3_extreme 92 = .ok (.invokestatic 268, 3) := dk_184 1 12 (dk_at dksX3_extreme_4 0 rfl rfl)
theorem dX3_extreme_95 : decode cX3_extreme 95 = .ok (.dstore_n 3, 1) := dk_74 (dk_at dksX3_extreme_4 3 rfl rfl)
theorem dX3_extreme_96 : decode cX3_extreme 96 = .ok (.goto (-46), 3) := dk_167 255 210 (dk_at dksX3_extreme_4 4 rfl rfl)
theorem dX3_extreme_99 : decode cX3_extreme 99 = .ok (.aload_n 0, 1) := dk_42 (dk_at dksX3_extreme_4 7 rfl rfl)
theorem dX3_extreme_100 : decode cX3_extreme 100 = .ok (.getfield 13, 3) := dk_180 0 13 (dk_at dksX3_extreme_4 8 rfl rfl)
theorem dX3_extreme_103 : decode cX3_extreme 103 = .ok (.iload_n 1, 1) := dk_27 (dk_at dksX3_extreme_4 11 rfl rfl)
theorem dX3_extreme_104 : decode cX3_extreme 104 = .ok (.baload, 1) := dk_51 (dk_at dksX3_extreme_4 12 rfl rfl)
theorem dX3_extreme_105 : decode cX3_extreme 105 = .ok (.dload_n 3, 1) := dk_41 (dk_at dksX3_extreme_4 13 rfl rfl)
theorem dX3_extreme_106 : decode cX3_extreme 106 = .ok (.invokestatic 216, 3) := dk_184 0 216 (dk_at dksX3_extreme_4 14 rfl rfl)
theorem dX3_extreme_109 : decode cX3_extreme 109 = .ok (.lreturn, 1) := dk_173 (dk_at dksX3_extreme_4 17 rfl rfl)
abbrev cX3_firstOrder : ByteArray := prog_27_method_84_code
def yX3_firstOrder : MethodName := ⟨RX3, "firstOrder", "(I)V"⟩
def dkwX3_firstOrder_1 : List UInt8 := [180, 0, 54, 28, 28, 79, 132, 2, 1, 167, 255, 236, 177]
abbrev dktX3_firstOrder_1 : List UInt8 := dkwX3_firstOrder_1 ++ []
def dkwX3_firstOrder_0 : List UInt8 := [42, 42, 180, 0, 13, 27, 51, 181, 0, 167, 3, 61, 28, 42, 180, 0, 7, 27, 46, 162, 0, 16, 42]
abbrev dktX3_firstOrder_0 : List UInt8 := dkwX3_firstOrder_0 ++ dktX3_firstOrder_1
theorem dksX3_firstOrder_0 : cX3_firstOrder.data.toList.drop 0 = dktX3_firstOrder_0 := by decide +kernel
theorem dksX3_firstOrder_1 : cX3_firstOrder.data.toList.drop 23 = dktX3_firstOrder_1 := dk_seg dksX3_firstOrder_0 23 rfl rfl
theorem dX3_firstOrder_0 : decode cX3_firstOrder 0 = .ok (.aload_n 0, 1) := dk_42 (dk_at dksX3_firstOrder_0 0 rfl rfl)
theorem dX3_firstOrder_1 : decode cX3_firstOrder 1 = .ok (.aload_n 0, 1) := dk_42 (dk_at dksX3_firstOrder_0 1 rfl rfl)
theorem dX3_firstOrder_2 : decode cX3_firstOrder 2 = .ok (.getfield 13, 3) := dk_180 0 13 (dk_at dksX3_firstOrder_0 2 rfl rfl)
theorem dX3_firstOrder_5 : decode cX3_firstOrder 5 = .ok (.iload_n 1, 1) := dk_27 (dk_at dksX3_firstOrder_0 5 rfl rfl)
theorem dX3_firstOrder_6 : decode cX3_firstOrder 6 = .ok (.baload, 1) := dk_51 (dk_at dksX3_firstOrder_0 6 rfl rfl)
theorem dX3_firstOrder_7 : decode cX3_firstOrder 7 = .ok (.putfield 167, 3) := dk_181 0 167 (dk_at dksX3_firstOrder_0 7 rfl rfl)
theorem dX3_firstOrder_10 : decode cX3_firstOrder 10 = .ok (.iconst 0, 1) := dk_3 (dk_at dksX3_firstOrder_0 10 rfl rfl)
theorem dX3_firstOrder_11 : decode cX3_firstOrder 11 = .ok (.istore_n 2, 1) := dk_61 (dk_at dksX3_firstOrder_0 11 rfl rfl)
theorem dX3_firstOrder_12 : decode cX3_firstOrder 12 = .ok (.iload_n 2, 1) := dk_28 (dk_at dksX3_firstOrder_0 12 rfl rfl)
theorem dX3_firstOrder_13 : decode cX3_firstOrder 13 = .ok (.aload_n 0, 1) := dk_42 (dk_at dksX3_firstOrder_0 13 rfl rfl)
theorem dX3_firstOrder_14 : decode cX3_firstOrder 14 = .ok (.getfield 7, 3) := dk_180 0 7 (dk_at dksX3_firstOrder_0 14 rfl rfl)
theorem dX3_firstOrder_17 : decode cX3_firstOrder 17 = .ok (.iload_n 1, 1) := dk_27 (dk_at dksX3_firstOrder_0 17 rfl rfl)
theorem dX3_firstOrder_18 : decode cX3_firstOrder 18 = .ok (.iaload, 1) := dk_46 (dk_at dksX3_firstOrder_0 18 rfl rfl)
theorem dX3_firstOrder_19 : decode cX3_firstOrder 19 = .ok (.if_icmp .ge 16, 3) := dk_162 0 16 (dk_at dksX3_firstOrder_0 19 rfl rfl)
theorem dX3_firstOrder_22 : decode cX3_firstOrder 22 = .ok (.aload_n 0, 1) := dk_42 (dk_at dksX3_firstOrder_0 22 rfl rfl)
theorem dX3_firstOrder_23 : decode cX3_firstOrder 23 = .ok (.getfield 54, 3) := dk_180 0 54 (dk_at dksX3_firstOrder_1 0 rfl rfl)
theorem dX3_firstOrder_26 : decode cX3_firstOrder 26 = .ok (.iload_n 2, 1) := dk_28 (dk_at dksX3_firstOrder_1 3 rfl rfl)
theorem dX3_firstOrder_27 : decode cX3_firstOrder 27 = .ok (.iload_n 2, 1) := dk_28 (dk_at dksX3_firstOrder_1 4 rfl rfl)
theorem dX3_firstOrder_28 : decode cX3_firstOrder 28 = .ok (.iastore, 1) := dk_79 (dk_at dksX3_firstOrder_1 5 rfl rfl)
theorem dX3_firstOrder_29 : decode cX3_firstOrder 29 = .ok (.iinc 2 1, 3) := dk_132 2 1 (dk_at dksX3_firstOrder_1 6 rfl rfl)
theorem dX3_firstOrder_32 : decode cX3_firstOrder 32 = .ok (.goto (-20), 3) := dk_167 255 236 (dk_at dksX3_firstOrder_1 9 rfl rfl)
theorem dX3_firstOrder_35 : decode cX3_firstOrder 35 = .ok (.return_, 1) := dk_177 (dk_at dksX3_firstOrder_1 12 rfl rfl)
abbrev cX3_ofOrder : ByteArray := prog_27_method_83_code
def yX3_ofOrder : MethodName := ⟨RX3, "ofOrder", "(II)D"⟩
def dkwX3_ofOrder_2 : List UInt8 := [21, 5, 46, 96, 49, 182, 1, 44, 74, 132, 5, 1, 167, 255, 224, 41, 175]
abbrev dktX3_ofOrder_2 : List UInt8 := dkwX3_ofOrder_2 ++ []
def dkwX3_ofOrder_1 : List UInt8 := [74, 4, 54, 5, 21, 5, 28, 162, 0, 32, 42, 41, 42, 180, 0, 17, 16, 60, 27, 104, 42, 180, 0, 54]
abbrev dktX3_ofOrder_1 : List UInt8 := dkwX3_ofOrder_1 ++ dktX3_ofOrder_2
def dkwX3_ofOrder_0 : List UInt8 := [28, 154, 0, 7, 14, 167, 0, 19, 42, 180, 0, 17, 16, 60, 27, 104, 42, 180, 0, 54, 3, 46, 96, 49]
abbrev dktX3_ofOrder_0 : List UInt8 := dkwX3_ofOrder_0 ++ dktX3_ofOrder_1
theorem dksX3_ofOrder_0 : cX3_ofOrder.data.toList.drop 0 = dktX3_ofOrder_0 := by decide +kernel
theorem dksX3_ofOrder_1 : cX3_ofOrder.data.toList.drop 24 = dktX3_ofOrder_1 := dk_seg dksX3_ofOrder_0 24 rfl rfl
theorem dksX3_ofOrder_2 : cX3_ofOrder.data.toList.drop 48 = dktX3_ofOrder_2 := dk_seg dksX3_ofOrder_1 24 rfl rfl
theorem dX3_ofOrder_0 : decode cX3_ofOrder 0 = .ok (.iload_n 2, 1) := dk_28 (dk_at dksX3_ofOrder_0 0 rfl rfl)
theorem dX3_ofOrder_1 : decode cX3_ofOrder 1 = .ok (.ifCond .ne 7, 3) := dk_154 0 7 (dk_at dksX3_ofOrder_0 1 rfl rfl)
theorem dX3_ofOrder_4 : decode cX3_ofOrder 4 = .ok (.dconst 0, 1) := dk_14 (dk_at dksX3_ofOrder_0 4 rfl rfl)
theorem dX3_ofOrder_5 : decode cX3_ofOrder 5 = .ok (.goto 19, 3) := dk_167 0 19 (dk_at dksX3_ofOrder_0 5 rfl rfl)
theorem dX3_ofOrder_8 : decode cX3_ofOrder 8 = .ok (.aload_n 0, 1) := dk_42 (dk_at dksX3_ofOrder_0 8 rfl rfl)
theorem dX3_ofOrder_9 : decode cX3_ofOrder 9 = .ok (.getfield 17, 3) := dk_180 0 17 (dk_at dksX3_ofOrder_0 9 rfl rfl)
theorem dX3_ofOrder_12 : decode cX3_ofOrder 12 = .ok (.bipush 60, 2) := dk_16 60 (dk_at dksX3_ofOrder_0 12 rfl rfl)
theorem dX3_ofOrder_14 : decode cX3_ofOrder 14 = .ok (.iload_n 1, 1) := dk_27 (dk_at dksX3_ofOrder_0 14 rfl rfl)
theorem dX3_ofOrder_15 : decode cX3_ofOrder 15 = .ok (.imul, 1) := dk_104 (dk_at dksX3_ofOrder_0 15 rfl rfl)
theorem dX3_ofOrder_16 : decode cX3_ofOrder 16 = .ok (.aload_n 0, 1) := dk_42 (dk_at dksX3_ofOrder_0 16 rfl rfl)
theorem dX3_ofOrder_17 : decode cX3_ofOrder 17 = .ok (.getfield 54, 3) := dk_180 0 54 (dk_at dksX3_ofOrder_0 17 rfl rfl)
theorem dX3_ofOrder_20 : decode cX3_ofOrder 20 = .ok (.iconst 0, 1) := dk_3 (dk_at dksX3_ofOrder_0 20 rfl rfl)
theorem dX3_ofOrder_21 : decode cX3_ofOrder 21 = .ok (.iaload, 1) := dk_46 (dk_at dksX3_ofOrder_0 21 rfl rfl)
theorem dX3_ofOrder_22 : decode cX3_ofOrder 22 = .ok (.iadd, 1) := dk_96 (dk_at dksX3_ofOrder_0 22 rfl rfl)
theorem dX3_ofOrder_23 : decode cX3_ofOrder 23 = .ok (.daload, 1) := dk_49 (dk_at dksX3_ofOrder_0 23 rfl rfl)
theorem dX3_ofOrder_24 : decode cX3_ofOrder 24 = .ok (.dstore_n 3, 1) := dk_74 (dk_at dksX3_ofOrder_1 0 rfl rfl)
theorem dX3_ofOrder_25 : decode cX3_ofOrder 25 = .ok (.iconst 1, 1) := dk_4 (dk_at dksX3_ofOrder_1 1 rfl rfl)
theorem dX3_ofOrder_26 : decode cX3_ofOrder 26 = .ok (.istore 5, 2) := dk_54 5 (dk_at dksX3_ofOrder_1 2 rfl rfl)
theorem dX3_ofOrder_28 : decode cX3_ofOrder 28 = .ok (.iload 5, 2) := dk_21 5 (dk_at dksX3_ofOrder_1 4 rfl rfl)
theorem dX3_ofOrder_30 : decode cX3_ofOrder 30 = .ok (.iload_n 2, 1) := dk_28 (dk_at dksX3_ofOrder_1 6 rfl rfl)
theorem dX3_ofOrder_31 : decode cX3_ofOrder 31 = .ok (.if_icmp .ge 32, 3) := dk_162 0 32 (dk_at dksX3_ofOrder_1 7 rfl rfl)
theorem dX3_ofOrder_34 : decode cX3_ofOrder 34 = .ok (.aload_n 0, 1) := dk_42 (dk_at dksX3_ofOrder_1 10 rfl rfl)
theorem dX3_ofOrder_35 : decode cX3_ofOrder 35 = .ok (.dload_n 3, 1) := dk_41 (dk_at dksX3_ofOrder_1 11 rfl rfl)
theorem dX3_ofOrder_36 : decode cX3_ofOrder 36 = .ok (.aload_n 0, 1) := dk_42 (dk_at dksX3_ofOrder_1 12 rfl rfl)
theorem dX3_ofOrder_37 : decode cX3_ofOrder 37 = .ok (.getfield 17, 3) := dk_180 0 17 (dk_at dksX3_ofOrder_1 13 rfl rfl)
theorem dX3_ofOrder_40 : decode cX3_ofOrder 40 = .ok (.bipush 60, 2) := dk_16 60 (dk_at dksX3_ofOrder_1 16 rfl rfl)
theorem dX3_ofOrder_42 : decode cX3_ofOrder 42 = .ok (.iload_n 1, 1) := dk_27 (dk_at dksX3_ofOrder_1 18 rfl rfl)
theorem dX3_ofOrder_43 : decode cX3_ofOrder 43 = .ok (.imul, 1) := dk_104 (dk_at dksX3_ofOrder_1 19 rfl rfl)
theorem dX3_ofOrder_44 : decode cX3_ofOrder 44 = .ok (.aload_n 0, 1) := dk_42 (dk_at dksX3_ofOrder_1 20 rfl rfl)
theorem dX3_ofOrder_45 : decode cX3_ofOrder 45 = .ok (.getfield 54, 3) := dk_180 0 54 (dk_at dksX3_ofOrder_1 21 rfl rfl)
theorem dX3_ofOrder_48 : decode cX3_ofOrder 48 = .ok (.iload 5, 2) := dk_21 5 (dk_at dksX3_ofOrder_2 0 rfl rfl)
theorem dX3_ofOrder_50 : decode cX3_ofOrder 50 = .ok (.iaload, 1) := dk_46 (dk_at dksX3_ofOrder_2 2 rfl rfl)
theorem dX3_ofOrder_51 : decode cX3_ofOrder 51 = .ok (.iadd, 1) := dk_96 (dk_at dksX3_ofOrder_2 3 rfl rfl)
theorem dX3_ofOrder_52 : decode cX3_ofOrder 52 = .ok (.daload, 1) := dk_49 (dk_at dksX3_ofOrder_2 4 rfl rfl)
theorem dX3_ofOrder_53 : decode cX3_ofOrder 53 = .ok (.invokevirtual 300, 3) := dk_182 1 44 (dk_at dksX3_ofOrder_2 5 rfl rfl)
theorem dX3_ofOrder_56 : decode cX3_ofOrder 56 = .ok (.dstore_n 3, 1) := dk_74 (dk_at dksX3_ofOrder_2 8 rfl rfl)
theorem dX3_ofOrder_57 : decode cX3_ofOrder 57 = .ok (.iinc 5 1, 3) := dk_132 5 1 (dk_at dksX3_ofOrder_2 9 rfl rfl)
theorem dX3_ofOrder_60 : decode cX3_ofOrder 60 = .ok (.goto (-32), 3) := dk_167 255 224 (dk_at dksX3_ofOrder_2 12 rfl rfl)
theorem dX3_ofOrder_63 : decode cX3_ofOrder 63 = .ok (.dload_n 3, 1) := dk_41 (dk_at dksX3_ofOrder_2 15 rfl rfl)
theorem dX3_ofOrder_64 : decode cX3_ofOrder 64 = .ok (.dreturn, 1) := dk_175 (dk_at dksX3_ofOrder_2 16 rfl rfl)
abbrev cX3_nextOrder : ByteArray := prog_27_method_81_code
def yX3_nextOrder : MethodName := ⟨RX3, "nextOrder", "(I)Z"⟩
def dkwX3_nextOrder_4 : List UInt8 := [132, 4, 1, 132, 5, 255, 167, 255, 235, 4, 172]
abbrev dktX3_nextOrder_4 : List UInt8 := dkwX3_nextOrder_4 ++ []
def dkwX3_nextOrder_3 : List UInt8 := [96, 54, 4, 27, 4, 100, 54, 5, 21, 4, 21, 5, 162, 0, 20, 42, 21, 4, 21, 5, 182, 1, 150]
abbrev dktX3_nextOrder_3 : List UInt8 := dkwX3_nextOrder_3 ++ dktX3_nextOrder_4
def dkwX3_nextOrder_2 : List UInt8 := [46, 42, 180, 0, 54, 28, 46, 162, 0, 9, 132, 3, 255, 167, 255, 238, 42, 28, 29, 182, 1, 150, 28, 4]
abbrev dktX3_nextOrder_2 : List UInt8 := dkwX3_nextOrder_2 ++ dktX3_nextOrder_3
def dkwX3_nextOrder_1 : List UInt8 := [164, 0, 9, 132, 2, 255, 167, 255, 232, 28, 156, 0, 5, 3, 172, 27, 4, 100, 62, 42, 180, 0, 54, 29]
abbrev dktX3_nextOrder_1 : List UInt8 := dkwX3_nextOrder_1 ++ dktX3_nextOrder_2
def dkwX3_nextOrder_0 : List UInt8 := [27, 5, 100, 61, 28, 155, 0, 26, 42, 180, 0, 54, 28, 46, 42, 180, 0, 54, 28, 4, 96, 46]
abbrev dktX3_nextOrder_0 : List UInt8 := dkwX3_nextOrder_0 ++ dktX3_nextOrder_1
theorem dksX3_nextOrder_0 : cX3_nextOrder.data.toList.drop 0 = dktX3_nextOrder_0 := by decide +kernel
theorem dksX3_nextOrder_1 : cX3_nextOrder.data.toList.drop 22 = dktX3_nextOrder_1 := dk_seg dksX3_nextOrder_0 22 rfl rfl
theorem dksX3_nextOrder_2 : cX3_nextOrder.data.toList.drop 46 = dktX3_nextOrder_2 := dk_seg dksX3_nextOrder_1 24 rfl rfl
theorem dksX3_nextOrder_3 : cX3_nextOrder.data.toList.drop 70 = dktX3_nextOrder_3 := dk_seg dksX3_nextOrder_2 24 rfl rfl
theorem dksX3_nextOrder_4 : cX3_nextOrder.data.toList.drop 93 = dktX3_nextOrder_4 := dk_seg dksX3_nextOrder_3 23 rfl rfl
theorem dX3_nextOrder_0 : decode cX3_nextOrder 0 = .ok (.iload_n 1, 1) := dk_27 (dk_at dksX3_nextOrder_0 0 rfl rfl)
theorem dX3_nextOrder_1 : decode cX3_nextOrder 1 = .ok (.iconst 2, 1) := dk_5 (dk_at dksX3_nextOrder_0 1 rfl rfl)
theorem dX3_nextOrder_2 : decode cX3_nextOrder 2 = .ok (.isub, 1) := dk_100 (dk_at dksX3_nextOrder_0 2 rfl rfl)
theorem dX3_nextOrder_3 : decode cX3_nextOrder 3 = .ok (.istore_n 2, 1) := dk_61 (dk_at dksX3_nextOrder_0 3 rfl rfl)
theorem dX3_nextOrder_4 : decode cX3_nextOrder 4 = .ok (.iload_n 2, 1) := dk_28 (dk_at dksX3_nextOrder_0 4 rfl rfl)
theorem dX3_nextOrder_5 : decode cX3_nextOrder 5 = .ok (.ifCond .lt 26, 3) := dk_155 0 26 (dk_at dksX3_nextOrder_0 5 rfl rfl)
theorem dX3_nextOrder_8 : decode cX3_nextOrder 8 = .ok (.aload_n 0, 1) := dk_42 (dk_at dksX3_nextOrder_0 8 rfl rfl)
theorem dX3_nextOrder_9 : decode cX3_nextOrder 9 = .ok (.getfield 54, 3) := dk_180 0 54 (dk_at dksX3_nextOrder_0 9 rfl rfl)
theorem dX3_nextOrder_12 : decode cX3_nextOrder 12 = .ok (.iload_n 2, 1) := dk_28 (dk_at dksX3_nextOrder_0 12 rfl rfl)
theorem dX3_nextOrder_13 : decode cX3_nextOrder 13 = .ok (.iaload, 1) := dk_46 (dk_at dksX3_nextOrder_0 13 rfl rfl)
theorem dX3_nextOrder_14 : decode cX3_nextOrder 14 = .ok (.aload_n 0, 1) := dk_42 (dk_at dksX3_nextOrder_0 14 rfl rfl)
theorem dX3_nextOrder_15 : decode cX3_nextOrder 15 = .ok (.getfield 54, 3) := dk_180 0 54 (dk_at dksX3_nextOrder_0 15 rfl rfl)
theorem dX3_nextOrder_18 : decode cX3_nextOrder 18 = .ok (.iload_n 2, 1) := dk_28 (dk_at dksX3_nextOrder_0 18 rfl rfl)
theorem dX3_nextOrder_19 : decode cX3_nextOrder 19 = .ok (.iconst 1, 1) := dk_4 (dk_at dksX3_nextOrder_0 19 rfl rfl)
theorem dX3_nextOrder_20 : decode cX3_nextOrder 20 = .ok (.iadd, 1) := dk_96 (dk_at dksX3_nextOrder_0 20 rfl rfl)
theorem dX3_nextOrder_21 : decode cX3_nextOrder 21 = .ok (.iaload, 1) := dk_46 (dk_at dksX3_nextOrder_0 21 rfl rfl)
theorem dX3_nextOrder_22 : decode cX3_nextOrder 22 = .ok (.if_icmp .le 9, 3) := dk_164 0 9 (dk_at dksX3_nextOrder_1 0 rfl rfl)
theorem dX3_nextOrder_25 : decode cX3_nextOrder 25 = .ok (.iinc 2 (-1), 3) := dk_132 2 255 (dk_at dksX3_nextOrder_1 3 rfl rfl)
theorem dX3_nextOrder_28 : decode cX3_nextOrder 28 = .ok (.goto (-24), 3) := dk_167 255 232 (dk_at dksX3_nextOrder_1 6 rfl rfl)
theorem dX3_nextOrder_31 : decode cX3_nextOrder 31 = .ok (.iload_n 2, 1) := dk_28 (dk_at dksX3_nextOrder_1 9 rfl rfl)
theorem dX3_nextOrder_32 : decode cX3_nextOrder 32 = .ok (.ifCond .ge 5, 3) := dk_156 0 5 (dk_at dksX3_nextOrder_1 10 rfl rfl)
theorem dX3_nextOrder_35 : decode cX3_nextOrder 35 = .ok (.iconst 0, 1) := dk_3 (dk_at dksX3_nextOrder_1 13 rfl rfl)
theorem dX3_nextOrder_36 : decode cX3_nextOrder 36 = .ok (.ireturn, 1) := dk_172 (dk_at dksX3_nextOrder_1 14 rfl rfl)
theorem dX3_nextOrder_37 : decode cX3_nextOrder 37 = .ok (.iload_n 1, 1) := dk_27 (dk_at dksX3_nextOrder_1 15 rfl rfl)
theorem dX3_nextOrder_38 : decode cX3_nextOrder 38 = .ok (.iconst 1, 1) := dk_4 (dk_at dksX3_nextOrder_1 16 rfl rfl)
theorem dX3_nextOrder_39 : decode cX3_nextOrder 39 = .ok (.isub, 1) := dk_100 (dk_at dksX3_nextOrder_1 17 rfl rfl)
theorem dX3_nextOrder_40 : decode cX3_nextOrder 40 = .ok (.istore_n 3, 1) := dk_62 (dk_at dksX3_nextOrder_1 18 rfl rfl)
theorem dX3_nextOrder_41 : decode cX3_nextOrder 41 = .ok (.aload_n 0, 1) := dk_42 (dk_at dksX3_nextOrder_1 19 rfl rfl)
theorem dX3_nextOrder_42 : decode cX3_nextOrder 42 = .ok (.getfield 54, 3) := dk_180 0 54 (dk_at dksX3_nextOrder_1 20 rfl rfl)
theorem dX3_nextOrder_45 : decode cX3_nextOrder 45 = .ok (.iload_n 3, 1) := dk_29 (dk_at dksX3_nextOrder_1 23 rfl rfl)
theorem dX3_nextOrder_46 : decode cX3_nextOrder 46 = .ok (.iaload, 1) := dk_46 (dk_at dksX3_nextOrder_2 0 rfl rfl)
theorem dX3_nextOrder_47 : decode cX3_nextOrder 47 = .ok (.aload_n 0, 1) := dk_42 (dk_at dksX3_nextOrder_2 1 rfl rfl)
theorem dX3_nextOrder_48 : decode cX3_nextOrder 48 = .ok (.getfield 54, 3) := dk_180 0 54 (dk_at dksX3_nextOrder_2 2 rfl rfl)
theorem dX3_nextOrder_51 : decode cX3_nextOrder 51 = .ok (.iload_n 2, 1) := dk_28 (dk_at dksX3_nextOrder_2 5 rfl rfl)
theorem dX3_nextOrder_52 : decode cX3_nextOrder 52 = .ok (.iaload, 1) := dk_46 (dk_at dksX3_nextOrder_2 6 rfl rfl)
theorem dX3_nextOrder_53 : decode cX3_nextOrder 53 = .ok (.if_icmp .ge 9, 3) := dk_162 0 9 (dk_at dksX3_nextOrder_2 7 rfl rfl)
theorem dX3_nextOrder_56 : decode cX3_nextOrder 56 = .ok (.iinc 3 (-1), 3) := dk_132 3 255 (dk_at dksX3_nextOrder_2 10 rfl rfl)
theorem dX3_nextOrder_59 : decode cX3_nextOrder 59 = .ok (.goto (-18), 3) := dk_167 255 238 (dk_at dksX3_nextOrder_2 13 rfl rfl)
theorem dX3_nextOrder_62 : decode cX3_nextOrder 62 = .ok (.aload_n 0, 1) := dk_42 (dk_at dksX3_nextOrder_2 16 rfl rfl)
theorem dX3_nextOrder_63 : decode cX3_nextOrder 63 = .ok (.iload_n 2, 1) := dk_28 (dk_at dksX3_nextOrder_2 17 rfl rfl)
theorem dX3_nextOrder_64 : decode cX3_nextOrder 64 = .ok (.iload_n 3, 1) := dk_29 (dk_at dksX3_nextOrder_2 18 rfl rfl)
theorem dX3_nextOrder_65 : decode cX3_nextOrder 65 = .ok (.invokevirtual 406, 3) := dk_182 1 150 (dk_at dksX3_nextOrder_2 19 rfl rfl)
theorem dX3_nextOrder_68 : decode cX3_nextOrder 68 = .ok (.iload_n 2, 1) := dk_28 (dk_at dksX3_nextOrder_2 22 rfl rfl)
theorem dX3_nextOrder_69 : decode cX3_nextOrder 69 = .ok (.iconst 1, 1) := dk_4 (dk_at dksX3_nextOrder_2 23 rfl rfl)
theorem dX3_nextOrder_70 : decode cX3_nextOrder 70 = .ok (.iadd, 1) := dk_96 (dk_at dksX3_nextOrder_3 0 rfl rfl)
theorem dX3_nextOrder_71 : decode cX3_nextOrder 71 = .ok (.istore 4, 2) := dk_54 4 (dk_at dksX3_nextOrder_3 1 rfl rfl)
theorem dX3_nextOrder_73 : decode cX3_nextOrder 73 = .ok (.iload_n 1, 1) := dk_27 (dk_at dksX3_nextOrder_3 3 rfl rfl)
theorem dX3_nextOrder_74 : decode cX3_nextOrder 74 = .ok (.iconst 1, 1) := dk_4 (dk_at dksX3_nextOrder_3 4 rfl rfl)
theorem dX3_nextOrder_75 : decode cX3_nextOrder 75 = .ok (.isub, 1) := dk_100 (dk_at dksX3_nextOrder_3 5 rfl rfl)
theorem dX3_nextOrder_76 : decode cX3_nextOrder 76 = .ok (.istore 5, 2) := dk_54 5 (dk_at dksX3_nextOrder_3 6 rfl rfl)
theorem dX3_nextOrder_78 : decode cX3_nextOrder 78 = .ok (.iload 4, 2) := dk_21 4 (dk_at dksX3_nextOrder_3 8 rfl rfl)
theorem dX3_nextOrder_80 : decode cX3_nextOrder 80 = .ok (.iload 5, 2) := dk_21 5 (dk_at dksX3_nextOrder_3 10 rfl rfl)
theorem dX3_nextOrder_82 : decode cX3_nextOrder 82 = .ok (.if_icmp .ge 20, 3) := dk_162 0 20 (dk_at dksX3_nextOrder_3 12 rfl rfl)
theorem dX3_nextOrder_85 : decode cX3_nextOrder 85 = .ok (.aload_n 0, 1) := dk_42 (dk_at dksX3_nextOrder_3 15 rfl rfl)
theorem dX3_nextOrder_86 : decode cX3_nextOrder 86 = .ok (.iload 4, 2) := dk_21 4 (dk_at dksX3_nextOrder_3 16 rfl rfl)
theorem dX3_nextOrder_88 : decode cX3_nextOrder 88 = .ok (.iload 5, 2) := dk_21 5 (dk_at dksX3_nextOrder_3 18 rfl rfl)
theorem dX3_nextOrder_90 : decode cX3_nextOrder 90 = .ok (.invokevirtual 406, 3) := dk_182 1 150 (dk_at dksX3_nextOrder_3 20 rfl rfl)
theorem dX3_nextOrder_93 : decode cX3_nextOrder 93 = .ok (.iinc 4 1, 3) := dk_132 4 1 (dk_at dksX3_nextOrder_4 0 rfl rfl)
theorem dX3_nextOrder_96 : decode cX3_nextOrder 96 = .ok (.iinc 5 (-1), 3) := dk_132 5 255 (dk_at dksX3_nextOrder_4 3 rfl rfl)
theorem dX3_nextOrder_99 : decode cX3_nextOrder 99 = .ok (.goto (-21), 3) := dk_167 255 235 (dk_at dksX3_nextOrder_4 6 rfl rfl)
theorem dX3_nextOrder_102 : decode cX3_nextOrder 102 = .ok (.iconst 1, 1) := dk_4 (dk_at dksX3_nextOrder_4 9 rfl rfl)
theorem dX3_nextOrder_103 : decode cX3_nextOrder 103 = .ok (.ireturn, 1) := dk_172 (dk_at dksX3_nextOrder_4 10 rfl rfl)
abbrev cX3_swap : ByteArray := prog_27_method_82_code
def yX3_swap : MethodName := ⟨RX3, "swap", "(II)V"⟩
def dkwX3_swap_1 : List UInt8 := [29, 79, 177]
abbrev dktX3_swap_1 : List UInt8 := dkwX3_swap_1 ++ []
def dkwX3_swap_0 : List UInt8 := [42, 180, 0, 54, 27, 46, 62, 42, 180, 0, 54, 27, 42, 180, 0, 54, 28, 46, 79, 42, 180, 0, 54, 28]
abbrev dktX3_swap_0 : List UInt8 := dkwX3_swap_0 ++ dktX3_swap_1
theorem dksX3_swap_0 : cX3_swap.data.toList.drop 0 = dktX3_swap_0 := by decide +kernel
theorem dksX3_swap_1 : cX3_swap.data.toList.drop 24 = dktX3_swap_1 := dk_seg dksX3_swap_0 24 rfl rfl
theorem dX3_swap_0 : decode cX3_swap 0 = .ok (.aload_n 0, 1) := dk_42 (dk_at dksX3_swap_0 0 rfl rfl)
theorem dX3_swap_1 : decode cX3_swap 1 = .ok (.getfield 54, 3) := dk_180 0 54 (dk_at dksX3_swap_0 1 rfl rfl)
theorem dX3_swap_4 : decode cX3_swap 4 = .ok (.iload_n 1, 1) := dk_27 (dk_at dksX3_swap_0 4 rfl rfl)
theorem dX3_swap_5 : decode cX3_swap 5 = .ok (.iaload, 1) := dk_46 (dk_at dksX3_swap_0 5 rfl rfl)
theorem dX3_swap_6 : decode cX3_swap 6 = .ok (.istore_n 3, 1) := dk_62 (dk_at dksX3_swap_0 6 rfl rfl)
theorem dX3_swap_7 : decode cX3_swap 7 = .ok (.aload_n 0, 1) := dk_42 (dk_at dksX3_swap_0 7 rfl rfl)
theorem dX3_swap_8 : decode cX3_swap 8 = .ok (.getfield 54, 3) := dk_180 0 54 (dk_at dksX3_swap_0 8 rfl rfl)
theorem dX3_swap_11 : decode cX3_swap 11 = .ok (.iload_n 1, 1) := dk_27 (dk_at dksX3_swap_0 11 rfl rfl)
theorem dX3_swap_12 : decode cX3_swap 12 = .ok (.aload_n 0, 1) := dk_42 (dk_at dksX3_swap_0 12 rfl rfl)
theorem dX3_swap_13 : decode cX3_swap 13 = .ok (.getfield 54, 3) := dk_180 0 54 (dk_at dksX3_swap_0 13 rfl rfl)
theorem dX3_swap_16 : decode cX3_swap 16 = .ok (.iload_n 2, 1) := dk_28 (dk_at dksX3_swap_0 16 rfl rfl)
theorem dX3_swap_17 : decode cX3_swap 17 = .ok (.iaload, 1) := dk_46 (dk_at dksX3_swap_0 17 rfl rfl)
theorem dX3_swap_18 : decode cX3_swap 18 = .ok (.iastore, 1) := dk_79 (dk_at dksX3_swap_0 18 rfl rfl)
theorem dX3_swap_19 : decode cX3_swap 19 = .ok (.aload_n 0, 1) := dk_42 (dk_at dksX3_swap_0 19 rfl rfl)
theorem dX3_swap_20 : decode cX3_swap 20 = .ok (.getfield 54, 3) := dk_180 0 54 (dk_at dksX3_swap_0 20 rfl rfl)
theorem dX3_swap_23 : decode cX3_swap 23 = .ok (.iload_n 2, 1) := dk_28 (dk_at dksX3_swap_0 23 rfl rfl)
theorem dX3_swap_24 : decode cX3_swap 24 = .ok (.iload_n 3, 1) := dk_29 (dk_at dksX3_swap_1 0 rfl rfl)
theorem dX3_swap_25 : decode cX3_swap 25 = .ok (.iastore, 1) := dk_79 (dk_at dksX3_swap_1 1 rfl rfl)
theorem dX3_swap_26 : decode cX3_swap 26 = .ok (.return_, 1) := dk_177 (dk_at dksX3_swap_1 2 rfl rfl)
abbrev cX3_reach : ByteArray := prog_27_method_86_code
def yX3_reach : MethodName := ⟨RX3, "reach", "(I)I"⟩
def dkwX3_reach_3 : List UInt8 := [180, 0, 7, 27, 46, 182, 1, 161, 54, 4, 167, 255, 221, 3, 172]
abbrev dktX3_reach_3 : List UInt8 := dkwX3_reach_3 ++ []
def dkwX3_reach_2 : List UInt8 := [153, 0, 36, 42, 27, 42, 180, 0, 7, 27, 46, 182, 1, 158, 40, 151, 154, 0, 5, 4, 172, 42, 42]
abbrev dktX3_reach_2 : List UInt8 := dkwX3_reach_2 ++ dktX3_reach_3
def dkwX3_reach_1 : List UInt8 := [16, 7, 164, 0, 6, 16, 152, 172, 42, 27, 182, 1, 145, 73, 42, 27, 182, 1, 155, 4, 54, 4, 21, 4]
abbrev dktX3_reach_1 : List UInt8 := dkwX3_reach_1 ++ dktX3_reach_2
def dkwX3_reach_0 : List UInt8 := [42, 42, 27, 182, 0, 103, 181, 0, 94, 42, 180, 0, 94, 153, 0, 5, 3, 172, 42, 180, 0, 7, 27, 46]
abbrev dktX3_reach_0 : List UInt8 := dkwX3_reach_0 ++ dktX3_reach_1
theorem dksX3_reach_0 : cX3_reach.data.toList.drop 0 = dktX3_reach_0 := by decide +kernel
theorem dksX3_reach_1 : cX3_reach.data.toList.drop 24 = dktX3_reach_1 := dk_seg dksX3_reach_0 24 rfl rfl
theorem dksX3_reach_2 : cX3_reach.data.toList.drop 48 = dktX3_reach_2 := dk_seg dksX3_reach_1 24 rfl rfl
theorem dksX3_reach_3 : cX3_reach.data.toList.drop 71 = dktX3_reach_3 := dk_seg dksX3_reach_2 23 rfl rfl
theorem dX3_reach_0 : decode cX3_reach 0 = .ok (.aload_n 0, 1) := dk_42 (dk_at dksX3_reach_0 0 rfl rfl)
theorem dX3_reach_1 : decode cX3_reach 1 = .ok (.aload_n 0, 1) := dk_42 (dk_at dksX3_reach_0 1 rfl rfl)
theorem dX3_reach_2 : decode cX3_reach 2 = .ok (.iload_n 1, 1) := dk_27 (dk_at dksX3_reach_0 2 rfl rfl)
theorem dX3_reach_3 : decode cX3_reach 3 = .ok (.invokevirtual 103, 3) := dk_182 0 103 (dk_at dksX3_reach_0 3 rfl rfl)
theorem dX3_reach_6 : decode cX3_reach 6 = .ok (.putfield 94, 3) := dk_181 0 94 (dk_at dksX3_reach_0 6 rfl rfl)
theorem dX3_reach_9 : decode cX3_reach 9 = .ok (.aload_n 0, 1) := dk_42 (dk_at dksX3_reach_0 9 rfl rfl)
theorem dX3_reach_10 : decode cX3_reach 10 = .ok (.getfield 94, 3) := dk_180 0 94 (dk_at dksX3_reach_0 10 rfl rfl)
theorem dX3_reach_13 : decode cX3_reach 13 = .ok (.ifCond .eq 5, 3) := dk_153 0 5 (dk_at dksX3_reach_0 13 rfl rfl)
theorem dX3_reach_16 : decode cX3_reach 16 = .ok (.iconst 0, 1) := dk_3 (dk_at dksX3_reach_0 16 rfl rfl)
theorem dX3_reach_17 : decode cX3_reach 17 = .ok (.ireturn, 1) := dk_172 (dk_at dksX3_reach_0 17 rfl rfl)
theorem dX3_reach_18 : decode cX3_reach 18 = .ok (.aload_n 0, 1) := dk_42 (dk_at dksX3_reach_0 18 rfl rfl)
theorem dX3_reach_19 : decode cX3_reach 19 = .ok (.getfield 7, 3) := dk_180 0 7 (dk_at dksX3_reach_0 19 rfl rfl)
theorem dX3_reach_22 : decode cX3_reach 22 = .ok (.iload_n 1, 1) := dk_27 (dk_at dksX3_reach_0 22 rfl rfl)
theorem dX3_reach_23 : decode cX3_reach 23 = .ok (.iaload, 1) := dk_46 (dk_at dksX3_reach_0 23 rfl rfl)
theorem dX3_reach_24 : decode cX3_reach 24 = .ok (.bipush 7, 2) := dk_16 7 (dk_at dksX3_reach_1 0 rfl rfl)
theorem dX3_reach_26 : decode cX3_reach 26 = .ok (.if_icmp .le 6, 3) := dk_164 0 6 (dk_at dksX3_reach_1 2 rfl rfl)
theorem dX3_reach_29 : decode cX3_reach 29 = .ok (.bipush (-104), 2) := dk_16 152 (dk_at dksX3_reach_1 5 rfl rfl)
theorem dX3_reach_31 : decode cX3_reach 31 = .ok (.ireturn, 1) := dk_172 (dk_at dksX3_reach_1 7 rfl rfl)
theorem dX3_reach_32 : decode cX3_reach 32 = .ok (.aload_n 0, 1) := dk_42 (dk_at dksX3_reach_1 8 rfl rfl)
theorem dX3_reach_33 : decode cX3_reach 33 = .ok (.iload_n 1, 1) := dk_27 (dk_at dksX3_reach_1 9 rfl rfl)
theorem dX3_reach_34 : decode cX3_reach 34 = .ok (.invokevirtual 401, 3) := dk_182 1 145 (dk_at dksX3_reach_1 10 rfl rfl)
theorem dX3_reach_37 : decode cX3_reach 37 = .ok (.dstore_n 2, 1) := dk_73 (dk_at dksX3_reach_1 13 rfl rfl)
theorem dX3_reach_38 : decode cX3_reach 38 = .ok (.aload_n 0, 1) := dk_42 (dk_at dksX3_reach_1 14 rfl rfl)
theorem dX3_reach_39 : decode cX3_reach 39 = .ok (.iload_n 1, 1) := dk_27 (dk_at dksX3_reach_1 15 rfl rfl)
theorem dX3_reach_40 : decode cX3_reach 40 = .ok (.invokevirtual 411, 3) := dk_182 1 155 (dk_at dksX3_reach_1 16 rfl rfl)
theorem dX3_reach_43 : decode cX3_reach 43 = .ok (.iconst 1, 1) := dk_4 (dk_at dksX3_reach_1 19 rfl rfl)
theorem dX3_reach_44 : decode cX3_reach 44 = .ok (.istore 4, 2) := dk_54 4 (dk_at dksX3_reach_1 20 rfl rfl)
theorem dX3_reach_46 : decode cX3_reach 46 = .ok (.iload 4, 2) := dk_21 4 (dk_at dksX3_reach_1 22 rfl rfl)
theorem dX3_reach_48 : decode cX3_reach 48 = .ok (.ifCond .eq 36, 3) := dk_153 0 36 (dk_at dksX3_reach_2 0 rfl rfl)
theorem dX3_reach_51 : decode cX3_reach 51 = .ok (.aload_n 0, 1) := dk_42 (dk_at dksX3_reach_2 3 rfl rfl)
theorem dX3_reach_52 : decode cX3_reach 52 = .ok (.iload_n 1, 1) := dk_27 (dk_at dksX3_reach_2 4 rfl rfl)
theorem dX3_reach_53 : decode cX3_reach 53 = .ok (.aload_n 0, 1) := dk_42 (dk_at dksX3_reach_2 5 rfl rfl)
theorem dX3_reach_54 : decode cX3_reach 54 = .ok (.getfield 7, 3) := dk_180 0 7 (dk_at dksX3_reach_2 6 rfl rfl)
theorem dX3_reach_57 : decode cX3_reach 57 = .ok (.iload_n 1, 1) := dk_27 (dk_at dksX3_reach_2 9 rfl rfl)
theorem dX3_reach_58 : decode cX3_reach 58 = .ok (.iaload, 1) := dk_46 (dk_at dksX3_reach_2 10 rfl rfl)
theorem dX3_reach_59 : decode cX3_reach 59 = .ok (.invokevirtual 414, 3) := dk_182 1 158 (dk_at dksX3_reach_2 11 rfl rfl)
theorem dX3_reach_62 : decode cX3_reach 62 = .ok (.dload_n 2, 1) := dk_40 (dk_at dksX3_reach_2 14 rfl rfl)
theorem dX3_reach_63 : decode cX3_reach 63 = .ok (.dcmp .l, 1) := dk_151 (dk_at dksX3_reach_2 15 rfl rfl)
theorem dX3_reach_64 : decode cX3_reach 64 = .ok (.ifCond .ne 5, 3) := dk_154 0 5 (dk_at dksX3_reach_2 16 rfl rfl)
theorem dX3_reach_67 : decode cX3_reach 67 = .ok (.iconst 1, 1) := dk_4 (dk_at dksX3_reach_2 19 rfl rfl)
theorem dX3_reach_68 : decode cX3_reach 68 = .ok (.ireturn, 1) := dk_172 (dk_at dksX3_reach_2 20 rfl rfl)
theorem dX3_reach_69 : decode cX3_reach 69 = .ok (.aload_n 0, 1) := dk_42 (dk_at dksX3_reach_2 21 rfl rfl)
theorem dX3_reach_70 : decode cX3_reach 70 = .ok (.aload_n 0, 1) := dk_42 (dk_at dksX3_reach_2 22 rfl rfl)
theorem dX3_reach_71 : decode cX3_reach 71 = .ok (.getfield 7, 3) := dk_180 0 7 (dk_at dksX3_reach_3 0 rfl rfl)
theorem dX3_reach_74 : decode cX3_reach 74 = .ok (.iload_n 1, 1) := dk_27 (dk_at dksX3_reach_3 3 rfl rfl)
theorem dX3_reach_75 : decode cX3_reach 75 = .ok (.iaload, 1) := dk_46 (dk_at dksX3_reach_3 4 rfl rfl)
theorem dX3_reach_76 : decode cX3_reach 76 = .ok (.invokevirtual 417, 3) := dk_182 1 161 (dk_at dksX3_reach_3 5 rfl rfl)
theorem dX3_reach_79 : decode cX3_reach 79 = .ok (.istore 4, 2) := dk_54 4 (dk_at dksX3_reach_3 8 rfl rfl)
theorem dX3_reach_81 : decode cX3_reach 81 = .ok (.goto (-35), 3) := dk_167 255 221 (dk_at dksX3_reach_3 10 rfl rfl)
theorem dX3_reach_84 : decode cX3_reach 84 = .ok (.iconst 0, 1) := dk_3 (dk_at dksX3_reach_3 13 rfl rfl)
theorem dX3_reach_85 : decode cX3_reach 85 = .ok (.ireturn, 1) := dk_172 (dk_at dksX3_reach_3 14 rfl rfl)
abbrev cX3_cure : ByteArray := prog_27_method_90_code
def yX3_cure : MethodName := ⟨RX3, "cure", "(I)I"⟩
def dkwX3_cure_8 : List UInt8 := [21, 5, 79, 42, 89, 180, 0, 69, 4, 96, 181, 0, 69, 132, 5, 1, 167, 255, 209, 42, 180, 0, 69, 172]
abbrev dktX3_cure_8 : List UInt8 := dkwX3_cure_8 ++ []
def dkwX3_cure_7 : List UInt8 := [21, 4, 155, 0, 41, 21, 4, 21, 5, 122, 4, 126, 4, 160, 0, 24, 42, 180, 0, 73, 42, 180, 0, 69]
abbrev dktX3_cure_7 : List UInt8 := dkwX3_cure_7 ++ dktX3_cure_8
def dkwX3_cure_6 : List UInt8 := [42, 21, 4, 156, 0, 7, 2, 167, 0, 4, 3, 181, 0, 69, 3, 54, 5, 21, 5, 16, 10, 162, 0, 46]
abbrev dktX3_cure_6 : List UInt8 := dkwX3_cure_6 ++ dktX3_cure_7
def dkwX3_cure_5 : List UInt8 := [153, 0, 18, 42, 27, 21, 5, 40, 182, 1, 170, 153, 0, 7, 21, 5, 54, 4, 132, 5, 1, 167, 255, 172]
abbrev dktX3_cure_5 : List UInt8 := dkwX3_cure_5 ++ dktX3_cure_6
def dkwX3_cure_4 : List UInt8 := [160, 0, 17, 21, 5, 21, 4, 184, 1, 167, 153, 0, 7, 4, 167, 0, 4, 3, 54, 6, 21, 6]
abbrev dktX3_cure_4 : List UInt8 := dkwX3_cure_4 ++ dktX3_cure_5
def dkwX3_cure_3 : List UInt8 := [21, 5, 184, 1, 164, 21, 4, 184, 1, 164, 161, 0, 26, 21, 5, 184, 1, 164, 21, 4, 184, 1, 164]
abbrev dktX3_cure_3 : List UInt8 := dkwX3_cure_3 ++ dktX3_cure_4
def dkwX3_cure_2 : List UInt8 := [2, 54, 4, 3, 54, 5, 21, 5, 4, 42, 180, 0, 7, 27, 46, 120, 162, 0, 77, 21, 4, 155, 0, 39]
abbrev dktX3_cure_2 : List UInt8 := dkwX3_cure_2 ++ dktX3_cure_3
def dkwX3_cure_1 : List UInt8 := [16, 10, 164, 0, 6, 16, 152, 172, 42, 27, 182, 1, 145, 73, 42, 42, 180, 0, 13, 27, 51, 181, 0, 167]
abbrev dktX3_cure_1 : List UInt8 := dkwX3_cure_1 ++ dktX3_cure_2
def dkwX3_cure_0 : List UInt8 := [42, 42, 27, 182, 0, 103, 181, 0, 94, 42, 180, 0, 94, 153, 0, 5, 3, 172, 42, 180, 0, 7, 27, 46]
abbrev dktX3_cure_0 : List UInt8 := dkwX3_cure_0 ++ dktX3_cure_1
theorem dksX3_cure_0 : cX3_cure.data.toList.drop 0 = dktX3_cure_0 := by decide +kernel
theorem dksX3_cure_1 : cX3_cure.data.toList.drop 24 = dktX3_cure_1 := dk_seg dksX3_cure_0 24 rfl rfl
theorem dksX3_cure_2 : cX3_cure.data.toList.drop 48 = dktX3_cure_2 := dk_seg dksX3_cure_1 24 rfl rfl
theorem dksX3_cure_3 : cX3_cure.data.toList.drop 72 = dktX3_cure_3 := dk_seg dksX3_cure_2 24 rfl rfl
theorem dksX3_cure_4 : cX3_cure.data.toList.drop 95 = dktX3_cure_4 := dk_seg dksX3_cure_3 23 rfl rfl
theorem dksX3_cure_5 : cX3_cure.data.toList.drop 117 = dktX3_cure_5 := dk_seg dksX3_cure_4 22 rfl rfl
theorem dksX3_cure_6 : cX3_cure.data.toList.drop 141 = dktX3_cure_6 := dk_seg dksX3_cure_5 24 rfl rfl
theorem dksX3_cure_7 : cX3_cure.data.toList.drop 165 = dktX3_cure_7 := dk_seg dksX3_cure_6 24 rfl rfl
theorem dksX3_cure_8 : cX3_cure.data.toList.drop 189 = dktX3_cure_8 := dk_seg dksX3_cure_7 24 rfl rfl
theorem dX3_cure_0 : decode cX3_cure 0 = .ok (.aload_n 0, 1) := dk_42 (dk_at dksX3_cure_0 0 rfl rfl)
theorem dX3_cure_1 : decode cX3_cure 1 = .ok (.aload_n 0, 1) := dk_42 (dk_at dksX3_cure_0 1 rfl rfl)
theorem dX3_cure_2 : decode cX3_cure 2 = .ok (.iload_n 1, 1) := dk_27 (dk_at dksX3_cure_0 2 rfl rfl)
theorem dX3_cure_3 : decode cX3_cure 3 = .ok (.invokevirtual 103, 3) := dk_182 0 103 (dk_at dksX3_cure_0 3 rfl rfl)
theorem dX3_cure_6 : decode cX3_cure 6 = .ok (.putfield 94, 3) := dk_181 0 94 (dk_at dksX3_cure_0 6 rfl rfl)
theorem dX3_cure_9 : decode cX3_cure 9 = .ok (.aload_n 0, 1) := dk_42 (dk_at dksX3_cure_0 9 rfl rfl)
theorem dX3_cure_10 : decode cX3_cure 10 = .ok (.getfield 94, 3) := dk_180 0 94 (dk_at dksX3_cure_0 10 rfl rfl)
theorem dX3_cure_13 : decode cX3_cure 13 = .ok (.ifCond .eq 5, 3) := dk_153 0 5 (dk_at dksX3_cure_0 13 rfl rfl)
theorem dX3_cure_16 : decode cX3_cure 16 = .ok (.iconst 0, 1) := dk_3 (dk_at dksX3_cure_0 16 rfl rfl)
theorem dX3_cure_17 : decode cX3_cure 17 = .ok (.ireturn, 1) := dk_172 (dk_at dksX3_cure_0 17 rfl rfl)
theorem dX3_cure_18 : decode cX3_cure 18 = .ok (.aload_n 0, 1) := dk_42 (dk_at dksX3_cure_0 18 rfl rfl)
theorem dX3_cure_19 : decode cX3_cure 19 = .ok (.getfield 7, 3) := dk_180 0 7 (dk_at dksX3_cure_0 19 rfl rfl)
theorem dX3_cure_22 : decode cX3_cure 22 = .ok (.iload_n 1, 1) := dk_27 (dk_at dksX3_cure_0 22 rfl rfl)
theorem dX3_cure_23 : decode cX3_cure 23 = .ok (.iaload, 1) := dk_46 (dk_at dksX3_cure_0 23 rfl rfl)
theorem dX3_cure_24 : decode cX3_cure 24 = .ok (.bipush 10, 2) := dk_16 10 (dk_at dksX3_cure_1 0 rfl rfl)
theorem dX3_cure_26 : decode cX3_cure 26 = .ok (.if_icmp .le 6, 3) := dk_164 0 6 (dk_at dksX3_cure_1 2 rfl rfl)
theorem dX3_cure_29 : decode cX3_cure 29 = .ok (.bipush (-104), 2) := dk_16 152 (dk_at dksX3_cure_1 5 rfl rfl)
theorem dX3_cure_31 : decode cX3_cure 31 = .ok (.ireturn, 1) := dk_172 (dk_at dksX3_cure_1 7 rfl rfl)
theorem dX3_cure_32 : decode cX3_cure 32 = .ok (.aload_n 0, 1) := dk_42 (dk_at dksX3_cure_1 8 rfl rfl)
theorem dX3_cure_33 : decode cX3_cure 33 = .ok (.iload_n 1, 1) := dk_27 (dk_at dksX3_cure_1 9 rfl rfl)
theorem dX3_cure_34 : decode cX3_cure 34 = .ok (.invokevirtual 401, 3) := dk_182 1 145 (dk_at dksX3_cure_1 10 rfl rfl)
theorem dX3_cure_37 : decode cX3_cure 37 = .ok (.dstore_n 2, 1) := dk_73 (dk_at dksX3_cure_1 13 rfl rfl)
theorem dX3_cure_38 : decode cX3_cure 38 = .ok (.aload_n 0, 1) := dk_42 (dk_at dksX3_cure_1 14 rfl rfl)
theorem dX3_cure_39 : decode cX3_cure 39 = .ok (.aload_n 0, 1) := dk_42 (dk_at dksX3_cure_1 15 rfl rfl)
theorem dX3_cure_40 : decode cX3_cure 40 = .ok (.getfield 13, 3) := dk_180 0 13 (dk_at dksX3_cure_1 16 rfl rfl)
theorem dX3_cure_43 : decode cX3_cure 43 = .ok (.iload_n 1, 1) := dk_27 (dk_at dksX3_cure_1 19 rfl rfl)
theorem dX3_cure_44 : decode cX3_cure 44 = .ok (.baload, 1) := dk_51 (dk_at dksX3_cure_1 20 rfl rfl)
theorem dX3_cure_45 : decode cX3_cure 45 = .ok (.putfield 167, 3) := dk_181 0 167 (dk_at dksX3_cure_1 21 rfl rfl)
theorem dX3_cure_48 : decode cX3_cure 48 = .ok (.iconst (-1), 1) := dk_2 (dk_at dksX3_cure_2 0 rfl rfl)
theorem dX3_cure_49 : decode cX3_cure 49 = .ok (.istore 4, 2) := dk_54 4 (dk_at dksX3_cure_2 1 rfl rfl)
theorem dX3_cure_51 : decode cX3_cure 51 = .ok (.iconst 0, 1) := dk_3 (dk_at dksX3_cure_2 3 rfl rfl)
theorem dX3_cure_52 : decode cX3_cure 52 = .ok (.istore 5, 2) := dk_54 5 (dk_at dksX3_cure_2 4 rfl rfl)
theorem dX3_cure_54 : decode cX3_cure 54 = .ok (.iload 5, 2) := dk_21 5 (dk_at dksX3_cure_2 6 rfl rfl)
theorem dX3_cure_56 : decode cX3_cure 56 = .ok (.iconst 1, 1) := dk_4 (dk_at dksX3_cure_2 8 rfl rfl)
theorem dX3_cure_57 : decode cX3_cure 57 = .ok (.aload_n 0, 1) := dk_42 (dk_at dksX3_cure_2 9 rfl rfl)
theorem dX3_cure_58 : decode cX3_cure 58 = .ok (.getfield 7, 3) := dk_180 0 7 (dk_at dksX3_cure_2 10 rfl rfl)
theorem dX3_cure_61 : decode cX3_cure 61 = .ok (.iload_n 1, 1) := dk_27 (dk_at dksX3_cure_2 13 rfl rfl)
theorem dX3_cure_62 : decode cX3_cure 62 = .ok (.iaload, 1) := dk_46 (dk_at dksX3_cure_2 14 rfl rfl)
theorem dX3_cure_63 : decode cX3_cure 63 = .ok (.ishl, 1) := dk_120 (dk_at dksX3_cure_2 15 rfl rfl)
theorem dX3_cure_64 : decode cX3_cure 64 = .ok (.if_icmp .ge 77, 3) := dk_162 0 77 (dk_at dksX3_cure_2 16 rfl rfl)
theorem dX3_cure_67 : decode cX3_cure 67 = .ok (.iload 4, 2) := dk_21 4 (dk_at dksX3_cure_2 19 rfl rfl)
theorem dX3_cure_69 : decode cX3_cure 69 = .ok (.ifCond .lt 39, 3) := dk_155 0 39 (dk_at dksX3_cure_2 21 rfl rfl)
theorem dX3_cure_72 : decode cX3_cure 72 = .ok (.iload 5, 2) := dk_21 5 (dk_at dksX3_cure_3 0 rfl rfl)
theorem dX3_cure_74 : decode cX3_cure 74 = .ok (.invokestatic 420, 3) := dk_184 1 164 (dk_at dksX3_cure_3 2 rfl rfl)
theorem dX3_cure_77 : decode cX3_cure 77 = .ok (.iload 4, 2) := dk_21 4 (dk_at dksX3_cure_3 5 rfl rfl)
theorem dX3_cure_79 : decode cX3_cure 79 = .ok (.invokestatic 420, 3) := dk_184 1 164 (dk_at dksX3_cure_3 7 rfl rfl)
theorem dX3_cure_82 : decode cX3_cure 82 = .ok (.if_icmp .lt 26, 3) := dk_161 0 26 (dk_at dksX3_cure_3 10 rfl rfl)
theorem dX3_cure_85 : decode cX3_cure 85 = .ok (.iload 5, 2) := dk_21 5 (dk_at dksX3_cure_3 13 rfl rfl)
theorem dX3_cure_87 : decode cX3_cure 87 = .ok (.invokestatic 420, 3) := dk_184 1 164 (dk_at dksX3_cure_3 15 rfl rfl)
theorem dX3_cure_90 : decode cX3_cure 90 = .ok (.iload 4, 2) := dk_21 4 (dk_at dksX3_cure_3 18 rfl rfl)
theorem dX3_cure_92 : decode cX3_cure 92 = .ok (.invokestatic 420, 3) := dk_184 1 164 (dk_at dksX3_cure_3 20 rfl rfl)
theorem dX3_cure_95 : decode cX3_cure 95 = .ok (.if_icmp .ne 17, 3) := dk_160 0 17 (dk_at dksX3_cure_4 0 rfl rfl)
theorem dX3_cure_98 : decode cX3_cure 98 = .ok (.iload 5, 2) := dk_21 5 (dk_at dksX3_cure_4 3 rfl rfl)
theorem dX3_cure_100 : decode cX3_cure 100 = .ok (.iload 4, 2) := dk_21 4 (dk_at dksX3_cure_4 5 rfl rfl)
theorem dX3_cure_102 : decode cX3_cure 102 = .ok (.invokestatic 423, 3) := dk_184 1 167 (dk_at dksX3_cure_4 7 rfl rfl)
theorem dX3_cure_105 : decode cX3_cure 105 = .ok (.ifCond .eq 7, 3) := dk_153 0 7 (dk_at dksX3_cure_4 10 rfl rfl)
theorem dX3_cure_108 : decode cX3_cure 108 = .ok (.iconst 1, 1) := dk_4 (dk_at dksX3_cure_4 13 rfl rfl)
theorem dX3_cure_109 : decode cX3_cure 109 = .ok (.goto 4, 3) := dk_167 0 4 (dk_at dksX3_cure_4 14 rfl rfl)
theorem dX3_cure_112 : decode cX3_cure 112 = .ok (.iconst 0, 1) := dk_3 (dk_at dksX3_cure_4 17 rfl rfl)
theorem dX3_cure_113 : decode cX3_cure 113 = .ok (.istore 6, 2) := dk_54 6 (dk_at dksX3_cure_4 18 rfl rfl)
theorem dX3_cure_115 : decode cX3_cure 115 = .ok (.iload 6, 2) := dk_21 6 (dk_at dksX3_cure_4 20 rfl rfl)
theorem dX3_cure_117 : decode cX3_cure 117 = .ok (.ifCond .eq 18, 3) := dk_153 0 18 (dk_at dksX3_cure_5 0 rfl rfl)
theorem dX3_cure_120 : decode cX3_cure 120 = .ok (.aload_n 0, 1) := dk_42 (dk_at dksX3_cure_5 3 rfl rfl)
theorem dX3_cure_121 : decode cX3_cure 121 = .ok (.iload_n 1, 1) := dk_27 (dk_at dksX3_cure_5 4 rfl rfl)
theorem dX3_cure_122 : decode cX3_cure 122 = .ok (.iload 5, 2) := dk_21 5 (dk_at dksX3_cure_5 5 rfl rfl)
theorem dX3_cure_124 : decode cX3_cure 124 = .ok (.dload_n 2, 1) := dk_40 (dk_at dksX3_cure_5 7 rfl rfl)
theorem dX3_cure_125 : decode cX3_cure 125 = .ok (.invokevirtual 426, 3) := dk_182 1 170 (dk_at dksX3_cure_5 8 rfl rfl)
theorem dX3_cure_128 : decode cX3_cure 128 = .ok (.ifCond .eq 7, 3) := dk_153 0 7 (dk_at dksX3_cure_5 11 rfl rfl)
theorem dX3_cure_131 : decode cX3_cure 131 = .ok (.iload 5, 2) := dk_21 5 (dk_at dksX3_cure_5 14 rfl rfl)
theorem dX3_cure_133 : decode cX3_cure 133 = .ok (.istore 4, 2) := dk_54 4 (dk_at dksX3_cure_5 16 rfl rfl)
theorem dX3_cure_135 : decode cX3_cure 135 = .ok (.iinc 5 1, 3) := dk_132 5 1 (dk_at dksX3_cure_5 18 rfl rfl)
theorem dX3_cure_138 : decode cX3_cure 138 = .ok (.goto (-84), 3) := dk_167 255 172 (dk_at dksX3_cure_5 21 rfl rfl)
theorem dX3_cure_141 : decode cX3_cure 141 = .ok (.aload_n 0, 1) := dk_42 (dk_at dksX3_cure_6 0 rfl rfl)
theorem dX3_cure_142 : decode cX3_cure 142 = .ok (.iload 4, 2) := dk_21 4 (dk_at dksX3_cure_6 1 rfl rfl)
theorem dX3_cure_144 : decode cX3_cure 144 = .ok (.ifCond .ge 7, 3) := dk_156 0 7 (dk_at dksX3_cure_6 3 rfl rfl)
theorem dX3_cure_147 : decode cX3_cure 147 = .ok (.iconst (-1), 1) := dk_2 (dk_at dksX3_cure_6 6 rfl rfl)
theorem dX3_cure_148 : decode cX3_cure 148 = .ok (.goto 4, 3) := dk_167 0 4 (dk_at dksX3_cure_6 7 rfl rfl)
theorem dX3_cure_151 : decode cX3_cure 151 = .ok (.iconst 0, 1) := dk_3 (dk_at dksX3_cure_6 10 rfl rfl)
theorem dX3_cure_152 : decode cX3_cure 152 = .ok (.putfield 69, 3) := dk_181 0 69 (dk_at dksX3_cure_6 11 rfl rfl)
theorem dX3_cure_155 : decode cX3_cure 155 = .ok (.iconst 0, 1) := dk_3 (dk_at dksX3_cure_6 14 rfl rfl)
theorem dX3_cure_156 : decode cX3_cure 156 = .ok (.istore 5, 2) := dk_54 5 (dk_at dksX3_cure_6 15 rfl rfl)
theorem dX3_cure_158 : decode cX3_cure 158 = .ok (.iload 5, 2) := dk_21 5 (dk_at dksX3_cure_6 17 rfl rfl)
theorem dX3_cure_160 : decode cX3_cure 160 = .ok (.bipush 10, 2) := dk_16 10 (dk_at dksX3_cure_6 19 rfl rfl)
theorem dX3_cure_162 : decode cX3_cure 162 = .ok (.if_icmp .ge 46, 3) := dk_162 0 46 (dk_at dksX3_cure_6 21 rfl rfl)
theorem dX3_cure_165 : decode cX3_cure 165 = .ok (.iload 4, 2) := dk_21 4 (dk_at dksX3_cure_7 0 rfl rfl)
theorem dX3_cure_167 : decode cX3_cure 167 = .ok (.ifCond .lt 41, 3) := dk_155 0 41 (dk_at dksX3_cure_7 2 rfl rfl)
theorem dX3_cure_170 : decode cX3_cure 170 = .ok (.iload 4, 2) := dk_21 4 (dk_at dksX3_cure_7 5 rfl rfl)
theorem dX3_cure_172 : decode cX3_cure 172 = .ok (.iload 5, 2) := dk_21 5 (dk_at dksX3_cure_7 7 rfl rfl)
theorem dX3_cure_174 : decode cX3_cure 174 = .ok (.ishr, 1) := dk_122 (dk_at dksX3_cure_7 9 rfl rfl)
theorem dX3_cure_175 : decode cX3_cure 175 = .ok (.iconst 1, 1) := dk_4 (dk_at dksX3_cure_7 10 rfl rfl)
theorem dX3_cure_176 : decode cX3_cure 176 = .ok (.iand, 1) := dk_126 (dk_at dksX3_cure_7 11 rfl rfl)
theorem dX3_cure_177 : decode cX3_cure 177 = .ok (.iconst 1, 1) := dk_4 (dk_at dksX3_cure_7 12 rfl rfl)
theorem dX3_cure_178 : decode cX3_cure 178 = .ok (.if_icmp .ne 24, 3) := dk_160 0 24 (dk_at dksX3_cure_7 13 rfl rfl)
theorem dX3_cure_181 : decode cX3_cure 181 = .ok (.aload_n 0, 1) := dk_42 (dk_at dksX3_cure_7 16 rfl rfl)
theorem dX3_cure_182 : decode cX3_cure 182 = .ok (.getfield 73, 3) := dk_180 0 73 (dk_at dksX3_cure_7 17 rfl rfl)
theorem dX3_cure_185 : decode cX3_cure 185 = .ok (.aload_n 0, 1) := dk_42 (dk_at dksX3_cure_7 20 rfl rfl)
theorem dX3_cure_186 : decode cX3_cure 186 = .ok (.getfield 69, 3) := dk_180 0 69 (dk_at dksX3_cure_7 21 rfl rfl)
theorem dX3_cure_189 : decode cX3_cure 189 = .ok (.iload 5, 2) := dk_21 5 (dk_at dksX3_cure_8 0 rfl rfl)
theorem dX3_cure_191 : decode cX3_cure 191 = .ok (.iastore, 1) := dk_79 (dk_at dksX3_cure_8 2 rfl rfl)
theorem dX3_cure_192 : decode cX3_cure 192 = .ok (.aload_n 0, 1) := dk_42 (dk_at dksX3_cure_8 3 rfl rfl)
theorem dX3_cure_193 : decode cX3_cure 193 = .ok (.dup, 1) := dk_89 (dk_at dksX3_cure_8 4 rfl rfl)
theorem dX3_cure_194 : decode cX3_cure 194 = .ok (.getfield 69, 3) := dk_180 0 69 (dk_at dksX3_cure_8 5 rfl rfl)
theorem dX3_cure_197 : decode cX3_cure 197 = .ok (.iconst 1, 1) := dk_4 (dk_at dksX3_cure_8 8 rfl rfl)
theorem dX3_cure_198 : decode cX3_cure 198 = .ok (.iadd, 1) := dk_96 (dk_at dksX3_cure_8 9 rfl rfl)
theorem dX3_cure_199 : decode cX3_cure 199 = .ok (.putfield 69, 3) := dk_181 0 69 (dk_at dksX3_cure_8 10 rfl rfl)
theorem dX3_cure_202 : decode cX3_cure 202 = .ok (.iinc 5 1, 3) := dk_132 5 1 (dk_at dksX3_cure_8 13 rfl rfl)
theorem dX3_cure_205 : decode cX3_cure 205 = .ok (.goto (-47), 3) := dk_167 255 209 (dk_at dksX3_cure_8 16 rfl rfl)
theorem dX3_cure_208 : decode cX3_cure 208 = .ok (.aload_n 0, 1) := dk_42 (dk_at dksX3_cure_8 19 rfl rfl)
theorem dX3_cure_209 : decode cX3_cure 209 = .ok (.getfield 69, 3) := dk_180 0 69 (dk_at dksX3_cure_8 20 rfl rfl)
theorem dX3_cure_212 : decode cX3_cure 212 = .ok (.ireturn, 1) := dk_172 (dk_at dksX3_cure_8 23 rfl rfl)
abbrev cX3_bits : ByteArray := prog_27_method_87_code
def yX3_bits : MethodName := ⟨RX3, "bits", "(I)I"⟩
def dkwX3_bits_1 : List UInt8 := [27, 172]
abbrev dktX3_bits_1 : List UInt8 := dkwX3_bits_1 ++ []
def dkwX3_bits_0 : List UInt8 := [3, 60, 3, 61, 28, 16, 10, 162, 0, 17, 27, 26, 28, 122, 4, 126, 96, 60, 132, 2, 1, 167, 255, 239]
abbrev dktX3_bits_0 : List UInt8 := dkwX3_bits_0 ++ dktX3_bits_1
theorem dksX3_bits_0 : cX3_bits.data.toList.drop 0 = dktX3_bits_0 := by decide +kernel
theorem dksX3_bits_1 : cX3_bits.data.toList.drop 24 = dktX3_bits_1 := dk_seg dksX3_bits_0 24 rfl rfl
theorem dX3_bits_0 : decode cX3_bits 0 = .ok (.iconst 0, 1) := dk_3 (dk_at dksX3_bits_0 0 rfl rfl)
theorem dX3_bits_1 : decode cX3_bits 1 = .ok (.istore_n 1, 1) := dk_60 (dk_at dksX3_bits_0 1 rfl rfl)
theorem dX3_bits_2 : decode cX3_bits 2 = .ok (.iconst 0, 1) := dk_3 (dk_at dksX3_bits_0 2 rfl rfl)
theorem dX3_bits_3 : decode cX3_bits 3 = .ok (.istore_n 2, 1) := dk_61 (dk_at dksX3_bits_0 3 rfl rfl)
theorem dX3_bits_4 : decode cX3_bits 4 = .ok (.iload_n 2, 1) := dk_28 (dk_at dksX3_bits_0 4 rfl rfl)
theorem dX3_bits_5 : decode cX3_bits 5 = .ok (.bipush 10, 2) := dk_16 10 (dk_at dksX3_bits_0 5 rfl rfl)
theorem dX3_bits_7 : decode cX3_bits 7 = .ok (.if_icmp .ge 17, 3) := dk_162 0 17 (dk_at dksX3_bits_0 7 rfl rfl)
theorem dX3_bits_10 : decode cX3_bits 10 = .ok (.iload_n 1, 1) := dk_27 (dk_at dksX3_bits_0 10 rfl rfl)
theorem dX3_bits_11 : decode cX3_bits 11 = .ok (.iload_n 0, 1) := dk_26 (dk_at dksX3_bits_0 11 rfl rfl)
theorem dX3_bits_12 : decode cX3_bits 12 = .ok (.iload_n 2, 1) := dk_28 (dk_at dksX3_bits_0 12 rfl rfl)
theorem dX3_bits_13 : decode cX3_bits 13 = .ok (.ishr, 1) := dk_122 (dk_at dksX3_bits_0 13 rfl rfl)
theorem dX3_bits_14 : decode cX3_bits 14 = .ok (.iconst 1, 1) := dk_4 (dk_at dksX3_bits_0 14 rfl rfl)
theorem dX3_bits_15 : decode cX3_bits 15 = .ok (.iand, 1) := dk_126 (dk_at dksX3_bits_0 15 rfl rfl)
theorem dX3_bits_16 : decode cX3_bits 16 = .ok (.iadd, 1) := dk_96 (dk_at dksX3_bits_0 16 rfl rfl)
theorem dX3_bits_17 : decode cX3_bits 17 = .ok (.istore_n 1, 1) := dk_60 (dk_at dksX3_bits_0 17 rfl rfl)
theorem dX3_bits_18 : decode cX3_bits 18 = .ok (.iinc 2 1, 3) := dk_132 2 1 (dk_at dksX3_bits_0 18 rfl rfl)
theorem dX3_bits_21 : decode cX3_bits 21 = .ok (.goto (-17), 3) := dk_167 255 239 (dk_at dksX3_bits_0 21 rfl rfl)
theorem dX3_bits_24 : decode cX3_bits 24 = .ok (.iload_n 1, 1) := dk_27 (dk_at dksX3_bits_1 0 rfl rfl)
theorem dX3_bits_25 : decode cX3_bits 25 = .ok (.ireturn, 1) := dk_172 (dk_at dksX3_bits_1 1 rfl rfl)
abbrev cX3_isAhead : ByteArray := prog_27_method_88_code
def yX3_isAhead : MethodName := ⟨RX3, "isAhead", "(II)Z"⟩
def dkwX3_isAhead_1 : List UInt8 := [167, 255, 239, 26, 29, 122, 4, 126, 4, 160, 0, 7, 4, 167, 0, 4, 3, 172]
abbrev dktX3_isAhead_1 : List UInt8 := dkwX3_isAhead_1 ++ []
def dkwX3_isAhead_0 : List UInt8 := [26, 27, 130, 61, 3, 62, 29, 16, 9, 162, 0, 17, 28, 29, 122, 4, 126, 154, 0, 9, 132, 3, 1]
abbrev dktX3_isAhead_0 : List UInt8 := dkwX3_isAhead_0 ++ dktX3_isAhead_1
theorem dksX3_isAhead_0 : cX3_isAhead.data.toList.drop 0 = dktX3_isAhead_0 := by decide +kernel
theorem dksX3_isAhead_1 : cX3_isAhead.data.toList.drop 23 = dktX3_isAhead_1 := dk_seg dksX3_isAhead_0 23 rfl rfl
theorem dX3_isAhead_0 : decode cX3_isAhead 0 = .ok (.iload_n 0, 1) := dk_26 (dk_at dksX3_isAhead_0 0 rfl rfl)
theorem dX3_isAhead_1 : decode cX3_isAhead 1 = .ok (.iload_n 1, 1) := dk_27 (dk_at dksX3_isAhead_0 1 rfl rfl)
theorem dX3_isAhead_2 : decode cX3_isAhead 2 = .ok (.ixor, 1) := dk_130 (dk_at dksX3_isAhead_0 2 rfl rfl)
theorem dX3_isAhead_3 : decode cX3_isAhead 3 = .ok (.istore_n 2, 1) := dk_61 (dk_at dksX3_isAhead_0 3 rfl rfl)
theorem dX3_isAhead_4 : decode cX3_isAhead 4 = .ok (.iconst 0, 1) := dk_3 (dk_at dksX3_isAhead_0 4 rfl rfl)
theorem dX3_isAhead_5 : decode cX3_isAhead 5 = .ok (.istore_n 3, 1) := dk_62 (dk_at dksX3_isAhead_0 5 rfl rfl)
theorem dX3_isAhead_6 : decode cX3_isAhead 6 = .ok (.iload_n 3, 1) := dk_29 (dk_at dksX3_isAhead_0 6 rfl rfl)
theorem dX3_isAhead_7 : decode cX3_isAhead 7 = .ok (.bipush 9, 2) := dk_16 9 (dk_at dksX3_isAhead_0 7 rfl rfl)
theorem dX3_isAhead_9 : decode cX3_isAhead 9 = .ok (.if_icmp .ge 17, 3) := dk_162 0 17 (dk_at dksX3_isAhead_0 9 rfl rfl)
theorem dX3_isAhead_12 : decode cX3_isAhead 12 = .ok (.iload_n 2, 1) := dk_28 (dk_at dksX3_isAhead_0 12 rfl rfl)
theorem dX3_isAhead_13 : decode cX3_isAhead 13 = .ok (.iload_n 3, 1) := dk_29 (dk_at dksX3_isAhead_0 13 rfl rfl)
theorem dX3_isAhead_14 : decode cX3_isAhead 14 = .ok (.ishr, 1) := dk_122 (dk_at dksX3_isAhead_0 14 rfl rfl)
theorem dX3_isAhead_15 : decode cX3_isAhead 15 = .ok (.iconst 1, 1) := dk_4 (dk_at dksX3_isAhead_0 15 rfl rfl)
theorem dX3_isAhead_16 : decode cX3_isAhead 16 = .ok (.iand, 1) := dk_126 (dk_at dksX3_isAhead_0 16 rfl rfl)
theorem dX3_isAhead_17 : decode cX3_isAhead 17 = .ok (.ifCond .ne 9, 3) := dk_154 0 9 (dk_at dksX3_isAhead_0 17 rfl rfl)
theorem dX3_isAhead_20 : decode cX3_isAhead 20 = .ok (.iinc 3 1, 3) := dk_132 3 1 (dk_at dksX3_isAhead_0 20 rfl rfl)
theorem dX3_isAhead_23 : decode cX3_isAhead 23 = .ok (.goto (-17), 3) := dk_167 255 239 (dk_at dksX3_isAhead_1 0 rfl rfl)
theorem dX3_isAhead_26 : decode cX3_isAhead 26 = .ok (.iload_n 0, 1) := dk_26 (dk_at dksX3_isAhead_1 3 rfl rfl)
theorem dX3_isAhead_27 : decode cX3_isAhead 27 = .ok (.iload_n 3, 1) := dk_29 (dk_at dksX3_isAhead_1 4 rfl rfl)
theorem dX3_isAhead_28 : decode cX3_isAhead 28 = .ok (.ishr, 1) := dk_122 (dk_at dksX3_isAhead_1 5 rfl rfl)
theorem dX3_isAhead_29 : decode cX3_isAhead 29 = .ok (.iconst 1, 1) := dk_4 (dk_at dksX3_isAhead_1 6 rfl rfl)
theorem dX3_isAhead_30 : decode cX3_isAhead 30 = .ok (.iand, 1) := dk_126 (dk_at dksX3_isAhead_1 7 rfl rfl)
theorem dX3_isAhead_31 : decode cX3_isAhead 31 = .ok (.iconst 1, 1) := dk_4 (dk_at dksX3_isAhead_1 8 rfl rfl)
theorem dX3_isAhead_32 : decode cX3_isAhead 32 = .ok (.if_icmp .ne 7, 3) := dk_160 0 7 (dk_at dksX3_isAhead_1 9 rfl rfl)
theorem dX3_isAhead_35 : decode cX3_isAhead 35 = .ok (.iconst 1, 1) := dk_4 (dk_at dksX3_isAhead_1 12 rfl rfl)
theorem dX3_isAhead_36 : decode cX3_isAhead 36 = .ok (.goto 4, 3) := dk_167 0 4 (dk_at dksX3_isAhead_1 13 rfl rfl)
theorem dX3_isAhead_39 : decode cX3_isAhead 39 = .ok (.iconst 0, 1) := dk_3 (dk_at dksX3_isAhead_1 16 rfl rfl)
theorem dX3_isAhead_40 : decode cX3_isAhead 40 = .ok (.ireturn, 1) := dk_172 (dk_at dksX3_isAhead_1 17 rfl rfl)
abbrev cX3_cures : ByteArray := prog_27_method_89_code
def yX3_cures : MethodName := ⟨RX3, "cures", "(IID)Z"⟩
def dkwX3_cures_3 : List UInt8 := [154, 0, 7, 4, 167, 0, 4, 3, 172]
abbrev dktX3_cures_3 : List UInt8 := dkwX3_cures_3 ++ []
def dkwX3_cures_2 : List UInt8 := [132, 5, 1, 132, 7, 1, 167, 255, 219, 132, 6, 1, 167, 255, 204, 42, 27, 21, 5, 182, 1, 158, 41, 151]
abbrev dktX3_cures_2 : List UInt8 := dkwX3_cures_2 ++ dktX3_cures_3
def dkwX3_cures_1 : List UInt8 := [162, 0, 32, 28, 21, 7, 122, 4, 126, 21, 6, 160, 0, 15, 42, 180, 0, 54, 21, 5, 21, 7, 79]
abbrev dktX3_cures_1 : List UInt8 := dkwX3_cures_1 ++ dktX3_cures_2
def dkwX3_cures_0 : List UInt8 := [3, 54, 5, 3, 54, 6, 21, 6, 5, 162, 0, 52, 3, 54, 7, 21, 7, 42, 180, 0, 7, 27, 46]
abbrev dktX3_cures_0 : List UInt8 := dkwX3_cures_0 ++ dktX3_cures_1
theorem dksX3_cures_0 : cX3_cures.data.toList.drop 0 = dktX3_cures_0 := by decide +kernel
theorem dksX3_cures_1 : cX3_cures.data.toList.drop 23 = dktX3_cures_1 := dk_seg dksX3_cures_0 23 rfl rfl
theorem dksX3_cures_2 : cX3_cures.data.toList.drop 46 = dktX3_cures_2 := dk_seg dksX3_cures_1 23 rfl rfl
theorem dksX3_cures_3 : cX3_cures.data.toList.drop 70 = dktX3_cures_3 := dk_seg dksX3_cures_2 24 rfl rfl
theorem dX3_cures_0 : decode cX3_cures 0 = .ok (.iconst 0, 1) := dk_3 (dk_at dksX3_cures_0 0 rfl rfl)
theorem dX3_cures_1 : decode cX3_cures 1 = .ok (.istore 5, 2) := dk_54 5 (dk_at dksX3_cures_0 1 rfl rfl)
theorem dX3_cures_3 : decode cX3_cures 3 = .ok (.iconst 0, 1) := dk_3 (dk_at dksX3_cures_0 3 rfl rfl)
theorem dX3_cures_4 : decode cX3_cures 4 = .ok (.istore 6, 2) := dk_54 6 (dk_at dksX3_cures_0 4 rfl rfl)
theorem dX3_cures_6 : decode cX3_cures 6 = .ok (.iload 6, 2) := dk_21 6 (dk_at dksX3_cures_0 6 rfl rfl)
theorem dX3_cures_8 : decode cX3_cures 8 = .ok (.iconst 2, 1) := dk_5 (dk_at dksX3_cures_0 8 rfl rfl)
theorem dX3_cures_9 : decode cX3_cures 9 = .ok (.if_icmp .ge 52, 3) := dk_162 0 52 (dk_at dksX3_cures_0 9 rfl rfl)
theorem dX3_cures_12 : decode cX3_cures 12 = .ok (.iconst 0, 1) := dk_3 (dk_at dksX3_cures_0 12 rfl rfl)
theorem dX3_cures_13 : decode cX3_cures 13 = .ok (.istore 7, 2) := dk_54 7 (dk_at dksX3_cures_0 13 rfl rfl)
theorem dX3_cures_15 : decode cX3_cures 15 = .ok (.iload 7, 2) := dk_21 7 (dk_at dksX3_cures_0 15 rfl rfl)
theorem dX3_cures_17 : decode cX3_cures 17 = .ok (.aload_n 0, 1) := dk_42 (dk_at dksX3_cures_0 17 rfl rfl)
theorem dX3_cures_18 : decode cX3_cures 18 = .ok (.getfield 7, 3) := dk_180 0 7 (dk_at dksX3_cures_0 18 rfl rfl)
theorem dX3_cures_21 : decode cX3_cures 21 = .ok (.iload_n 1, 1) := dk_27 (dk_at dksX3_cures_0 21 rfl rfl)
theorem dX3_cures_22 : decode cX3_cures 22 = .ok (.iaload, 1) := dk_46 (dk_at dksX3_cures_0 22 rfl rfl)
theorem dX3_cures_23 : decode cX3_cures 23 = .ok (.if_icmp .ge 32, 3) := dk_162 0 32 (dk_at dksX3_cures_1 0 rfl rfl)
theorem dX3_cures_26 : decode cX3_cures 26 = .ok (.iload_n 2, 1) := dk_28 (dk_at dksX3_cures_1 3 rfl rfl)
theorem dX3_cures_27 : decode cX3_cures 27 = .ok (.iload 7, 2) := dk_21 7 (dk_at dksX3_cures_1 4 rfl rfl)
theorem dX3_cures_29 : decode cX3_cures 29 = .ok (.ishr, 1) := dk_122 (dk_at dksX3_cures_1 6 rfl rfl)
theorem dX3_cures_30 : decode cX3_cures 30 = .ok (.iconst 1, 1) := dk_4 (dk_at dksX3_cures_1 7 rfl rfl)
theorem dX3_cures_31 : decode cX3_cures 31 = .ok (.iand, 1) := dk_126 (dk_at dksX3_cures_1 8 rfl rfl)
theorem dX3_cures_32 : decode cX3_cures 32 = .ok (.iload 6, 2) := dk_21 6 (dk_at dksX3_cures_1 9 rfl rfl)
theorem dX3_cures_34 : decode cX3_cures 34 = .ok (.if_icmp .ne 15, 3) := dk_160 0 15 (dk_at dksX3_cures_1 11 rfl rfl)
theorem dX3_cures_37 : decode cX3_cures 37 = .ok (.aload_n 0, 1) := dk_42 (dk_at dksX3_cures_1 14 rfl rfl)
theorem dX3_cures_38 : decode cX3_cures 38 = .ok (.getfield 54, 3) := dk_180 0 54 (dk_at dksX3_cures_1 15 rfl rfl)
theorem dX3_cures_41 : decode cX3_cures 41 = .ok (.iload 5, 2) := dk_21 5 (dk_at dksX3_cures_1 18 rfl rfl)
theorem dX3_cures_43 : decode cX3_cures 43 = .ok (.iload 7, 2) := dk_21 7 (dk_at dksX3_cures_1 20 rfl rfl)
theorem dX3_cures_45 : decode cX3_cures 45 = .ok (.iastore, 1) := dk_79 (dk_at dksX3_cures_1 22 rfl rfl)
theorem dX3_cures_46 : decode cX3_cures 46 = .ok (.iinc 5 1, 3) := dk_132 5 1 (dk_at dksX3_cures_2 0 rfl rfl)
theorem dX3_cures_49 : decode cX3_cures 49 = .ok (.iinc 7 1, 3) := dk_132 7 1 (dk_at dksX3_cures_2 3 rfl rfl)
theorem dX3_cures_52 : decode cX3_cures 52 = .ok (.goto (-37), 3) := dk_167 255 219 (dk_at dksX3_cures_2 6 rfl rfl)
theorem dX3_cures_55 : decode cX3_cures 55 = .ok (.iinc 6 1, 3) := dk_132 6 1 (dk_at dksX3_cures_2 9 rfl rfl)
theorem dX3_cures_58 : decode cX3_cures 58 = .ok (.goto (-52), 3) := dk_167 255 204 (dk_at dksX3_cures_2 12 rfl rfl)
theorem dX3_cures_61 : decode cX3_cures 61 = .ok (.aload_n 0, 1) := dk_42 (dk_at dksX3_cures_2 15 rfl rfl)
theorem dX3_cures_62 : decode cX3_cures 62 = .ok (.iload_n 1, 1) := dk_27 (dk_at dksX3_cures_2 16 rfl rfl)
theorem dX3_cures_63 : decode cX3_cures 63 = .ok (.iload 5, 2) := dk_21 5 (dk_at dksX3_cures_2 17 rfl rfl)
theorem dX3_cures_65 : decode cX3_cures 65 = .ok (.invokevirtual 414, 3) := dk_182 1 158 (dk_at dksX3_cures_2 19 rfl rfl)
theorem dX3_cures_68 : decode cX3_cures 68 = .ok (.dload_n 3, 1) := dk_41 (dk_at dksX3_cures_2 22 rfl rfl)
theorem dX3_cures_69 : decode cX3_cures 69 = .ok (.dcmp .l, 1) := dk_151 (dk_at dksX3_cures_2 23 rfl rfl)
theorem dX3_cures_70 : decode cX3_cures 70 = .ok (.ifCond .ne 7, 3) := dk_154 0 7 (dk_at dksX3_cures_3 0 rfl rfl)
theorem dX3_cures_73 : decode cX3_cures 73 = .ok (.iconst 1, 1) := dk_4 (dk_at dksX3_cures_3 3 rfl rfl)
theorem dX3_cures_74 : decode cX3_cures 74 = .ok (.goto 4, 3) := dk_167 0 4 (dk_at dksX3_cures_3 4 rfl rfl)
theorem dX3_cures_77 : decode cX3_cures 77 = .ok (.iconst 0, 1) := dk_3 (dk_at dksX3_cures_3 7 rfl rfl)
theorem dX3_cures_78 : decode cX3_cures 78 = .ok (.ireturn, 1) := dk_172 (dk_at dksX3_cures_3 8 rfl rfl)
abbrev cX3_cured : ByteArray := prog_27_method_91_code
def yX3_cured : MethodName := ⟨RX3, "cured", "(I)I"⟩
def dkwX3_cured_1 : List UInt8 := [180, 0, 73, 27, 46, 167, 0, 4, 2, 172]
abbrev dktX3_cured_1 : List UInt8 := dkwX3_cured_1 ++ []
def dkwX3_cured_0 : List UInt8 := [42, 3, 181, 0, 94, 27, 133, 9, 42, 180, 0, 69, 4, 100, 133, 184, 0, 99, 153, 0, 12, 42]
abbrev dktX3_cured_0 : List UInt8 := dkwX3_cured_0 ++ dktX3_cured_1
theorem dksX3_cured_0 : cX3_cured.data.toList.drop 0 = dktX3_cured_0 := by decide +kernel
theorem dksX3_cured_1 : cX3_cured.data.toList.drop 22 = dktX3_cured_1 := dk_seg dksX3_cured_0 22 rfl rfl
theorem dX3_cured_0 : decode cX3_cured 0 = .ok (.aload_n 0, 1) := dk_42 (dk_at dksX3_cured_0 0 rfl rfl)
theorem dX3_cured_1 : decode cX3_cured 1 = .ok (.iconst 0, 1) := dk_3 (dk_at dksX3_cured_0 1 rfl rfl)
theorem dX3_cured_2 : decode cX3_cured 2 = .ok (.putfield 94, 3) := dk_181 0 94 (dk_at dksX3_cured_0 2 rfl rfl)
theorem dX3_cured_5 : decode cX3_cured 5 = .ok (.iload_n 1, 1) := dk_27 (dk_at dksX3_cured_0 5 rfl rfl)
theorem dX3_cured_6 : decode cX3_cured 6 = .ok (.i2l, 1) := dk_133 (dk_at dksX3_cured_0 6 rfl rfl)
theorem dX3_cured_7 : decode cX3_cured 7 = .ok (.lconst 0, 1) := dk_9 (dk_at dksX3_cured_0 7 rfl rfl)
theorem dX3_cured_8 : decode cX3_cured 8 = .ok (.aload_n 0, 1) := dk_42 (dk_at dksX3_cured_0 8 rfl rfl)
theorem dX3_cured_9 : decode cX3_cured 9 = .ok (.getfield 69, 3) := dk_180 0 69 (dk_at dksX3_cured_0 9 rfl rfl)
theorem dX3_cured_12 : decode cX3_cured 12 = .ok (.iconst 1, 1) := dk_4 (dk_at dksX3_cured_0 12 rfl rfl)
theorem dX3_cured_13 : decode cX3_cured 13 = .ok (.isub, 1) := dk_100 (dk_at dksX3_cured_0 13 rfl rfl)
theorem dX3_cured_14 : decode cX3_cured 14 = .ok (.i2l, 1) := dk_133 (dk_at dksX3_cured_0 14 rfl rfl)
theorem dX3_cured_15 : decode cX3_cured 15 = .ok (.invokestatic 99, 3) := dk_184 0 99 (dk_at dksX3_cured_0 15 rfl rfl)
theorem dX3_cured_18 : decode cX3_cured 18 = .ok (.ifCond .eq 12, 3) := dk_153 0 12 (dk_at dksX3_cured_0 18 rfl rfl)
theorem dX3_cured_21 : decode cX3_cured 21 = .ok (.aload_n 0, 1) := dk_42 (dk_at dksX3_cured_0 21 rfl rfl)
theorem dX3_cured_22 : decode cX3_cured 22 = .ok (.getfield 73, 3) := dk_180 0 73 (dk_at dksX3_cured_1 0 rfl rfl)
theorem dX3_cured_25 : decode cX3_cured 25 = .ok (.iload_n 1, 1) := dk_27 (dk_at dksX3_cured_1 3 rfl rfl)
theorem dX3_cured_26 : decode cX3_cured 26 = .ok (.iaload, 1) := dk_46 (dk_at dksX3_cured_1 4 rfl rfl)
theorem dX3_cured_27 : decode cX3_cured 27 = .ok (.goto 4, 3) := dk_167 0 4 (dk_at dksX3_cured_1 5 rfl rfl)
theorem dX3_cured_30 : decode cX3_cured 30 = .ok (.iconst (-1), 1) := dk_2 (dk_at dksX3_cured_1 8 rfl rfl)
theorem dX3_cured_31 : decode cX3_cured 31 = .ok (.ireturn, 1) := dk_172 (dk_at dksX3_cured_1 9 rfl rfl)
abbrev cX3_statement : ByteArray := prog_27_method_92_code
def yX3_statement : MethodName := ⟨RX3, "statement", "(IJI)I"⟩
def dkwX3_statement_4 : List UInt8 := [154, 0, 10, 4, 21, 6, 120, 167, 0, 4, 3, 128, 54, 5, 132, 6, 1, 167, 255, 189, 21, 5, 172]
abbrev dktX3_statement_4 : List UInt8 := dkwX3_statement_4 ++ []
def dkwX3_statement_3 : List UInt8 := [182, 1, 103, 57, 7, 21, 5, 42, 24, 7, 21, 4, 182, 1, 29, 153, 0, 19, 42, 180, 0, 181, 32, 148]
abbrev dktX3_statement_3 : List UInt8 := dkwX3_statement_3 ++ dktX3_statement_4
def dkwX3_statement_2 : List UInt8 := [16, 13, 162, 0, 66, 21, 6, 16, 6, 159, 0, 53, 21, 6, 16, 9, 159, 0, 46, 42, 27, 21, 6, 3]
abbrev dktX3_statement_2 : List UInt8 := dkwX3_statement_2 ++ dktX3_statement_3
def dkwX3_statement_1 : List UInt8 := [182, 0, 103, 181, 0, 94, 42, 180, 0, 94, 153, 0, 5, 3, 172, 3, 54, 5, 3, 54, 6, 21, 6]
abbrev dktX3_statement_1 : List UInt8 := dkwX3_statement_1 ++ dktX3_statement_2
def dkwX3_statement_0 : List UInt8 := [42, 3, 181, 0, 94, 21, 4, 133, 9, 20, 0, 235, 184, 0, 99, 154, 0, 6, 16, 154, 172, 42, 42, 27]
abbrev dktX3_statement_0 : List UInt8 := dkwX3_statement_0 ++ dktX3_statement_1
theorem dksX3_statement_0 : cX3_statement.data.toList.drop 0 = dktX3_statement_0 := by decide +kernel
theorem dksX3_statement_1 : cX3_statement.data.toList.drop 24 = dktX3_statement_1 := dk_seg dksX3_statement_0 24 rfl rfl
theorem dksX3_statement_2 : cX3_statement.data.toList.drop 47 = dktX3_statement_2 := dk_seg dksX3_statement_1 23 rfl rfl
theorem dksX3_statement_3 : cX3_statement.data.toList.drop 71 = dktX3_statement_3 := dk_seg dksX3_statement_2 24 rfl rfl
theorem dksX3_statement_4 : cX3_statement.data.toList.drop 95 = dktX3_statement_4 := dk_seg dksX3_statement_3 24 rfl rfl
theorem dX3_statement_0 : decode cX3_statement 0 = .ok (.aload_n 0, 1) := dk_42 (dk_at dksX3_statement_0 0 rfl rfl)
theorem dX3_statement_1 : decode cX3_statement 1 = .ok (.iconst 0, 1) := dk_3 (dk_at dksX3_statement_0 1 rfl rfl)
theorem dX3_statement_2 : decode cX3_statement 2 = .ok (.putfield 94, 3) := dk_181 0 94 (dk_at dksX3_statement_0 2 rfl rfl)
theorem dX3_statement_5 : decode cX3_statement 5 = .ok (.iload 4, 2) := dk_21 4 (dk_at dksX3_statement_0 5 rfl rfl)
theorem dX3_statement_7 : decode cX3_statement 7 = .ok (.i2l, 1) := dk_133 (dk_at dksX3_statement_0 7 rfl rfl)
theorem dX3_statement_8 : decode cX3_statement 8 = .ok (.lconst 0, 1) := dk_9 (dk_at dksX3_statement_0 8 rfl rfl)
theorem dX3_statement_9 : decode cX3_statement 9 = .ok (.ldc2_w 235, 3) := dk_20 0 235 (dk_at dksX3_statement_0 9 rfl rfl)
theorem dX3_statement_12 : decode cX3_statement 12 = .ok (.invokestatic 99, 3) := dk_184 0 99 (dk_at dksX3_statement_0 12 rfl rfl)
theorem dX3_statement_15 : decode cX3_statement 15 = .ok (.ifCond .ne 6, 3) := dk_154 0 6 (dk_at dksX3_statement_0 15 rfl rfl)
theorem dX3_statement_18 : decode cX3_statement 18 = .ok (.bipush (-102), 2) := dk_16 154 (dk_at dksX3_statement_0 18 rfl rfl)
theorem dX3_statement_20 : decode cX3_statement 20 = .ok (.ireturn, 1) := dk_172 (dk_at dksX3_statement_0 20 rfl rfl)
theorem dX3_statement_21 : decode cX3_statement 21 = .ok (.aload_n 0, 1) := dk_42 (dk_at dksX3_statement_0 21 rfl rfl)
theorem dX3_statement_22 : decode cX3_statement 22 = .ok (.aload_n 0, 1) := dk_42 (dk_at dksX3_statement_0 22 rfl rfl)
theorem dX3_statement_23 : decode cX3_statement 23 = .ok (.iload_n 1, 1) := dk_27 (dk_at dksX3_statement_0 23 rfl rfl)
theorem dX3_statement_24 : decode cX3_statement 24 = .ok (.invokevirtual 103, 3) := dk_182 0 103 (dk_at dksX3_statement_1 0 rfl rfl)
theorem dX3_statement_27 : decode cX3_statement 27 = .ok (.putfield 94, 3) := dk_181 0 94 (dk_at dksX3_statement_1 3 rfl rfl)
theorem dX3_statement_30 : decode cX3_statement 30 = .ok (.aload_n 0, 1) := dk_42 (dk_at dksX3_statement_1 6 rfl rfl)
theorem dX3_statement_31 : decode cX3_statement 31 = .ok (.getfield 94, 3) := dk_180 0 94 (dk_at dksX3_statement_1 7 rfl rfl)
theorem dX3_statement_34 : decode cX3_statement 34 = .ok (.ifCond .eq 5, 3) := dk_153 0 5 (dk_at dksX3_statement_1 10 rfl rfl)
theorem dX3_statement_37 : decode cX3_statement 37 = .ok (.iconst 0, 1) := dk_3 (dk_at dksX3_statement_1 13 rfl rfl)
theorem dX3_statement_38 : decode cX3_statement 38 = .ok (.ireturn, 1) := dk_172 (dk_at dksX3_statement_1 14 rfl rfl)
theorem dX3_statement_39 : decode cX3_statement 39 = .ok (.iconst 0, 1) := dk_3 (dk_at dksX3_statement_1 15 rfl rfl)
theorem dX3_statement_40 : decode cX3_statement 40 = .ok (.istore 5, 2) := dk_54 5 (dk_at dksX3_statement_1 16 rfl rfl)
theorem dX3_statement_42 : decode cX3_statement 42 = .ok (.iconst 0, 1) := dk_3 (dk_at dksX3_statement_1 18 rfl rfl)
theorem dX3_statement_43 : decode cX3_statement 43 = .ok (.istore 6, 2) := dk_54 6 (dk_at dksX3_statement_1 19 rfl rfl)
theorem dX3_statement_45 : decode cX3_statement 45 = .ok (.iload 6, 2) := dk_21 6 (dk_at dksX3_statement_1 21 rfl rfl)
theorem dX3_statement_47 : decode cX3_statement 47 = .ok (.bipush 13, 2) := dk_16 13 (dk_at dksX3_statement_2 0 rfl rfl)
theorem dX3_statement_49 : decode cX3_statement 49 = .ok (.if_icmp .ge 66, 3) := dk_162 0 66 (dk_at dksX3_statement_2 2 rfl rfl)
theorem dX3_statement_52 : decode cX3_statement 52 = .ok (.iload 6, 2) := dk_21 6 (dk_at dksX3_statement_2 5 rfl rfl)
theorem dX3_statement_54 : decode cX3_statement 54 = .ok (.bipush 6, 2) := dk_16 6 (dk_at dksX3_statement_2 7 rfl rfl)
theorem dX3_statement_56 : decode cX3_statement 56 = .ok (.if_icmp .eq 53, 3) := dk_159 0 53 (dk_at dksX3_statement_2 9 rfl rfl)
theorem dX3_statement_59 : decode cX3_statement 59 = .ok (.iload 6, 2) := dk_21 6 (dk_at dksX3_statement_2 12 rfl rfl)
theorem dX3_statement_61 : decode cX3_statement 61 = .ok (.bipush 9, 2) := dk_16 9 (dk_at dksX3_statement_2 14 rfl rfl)
theorem dX3_statement_63 : decode cX3_statement 63 = .ok (.if_icmp .eq 46, 3) := dk_159 0 46 (dk_at dksX3_statement_2 16 rfl rfl)
theorem dX3_statement_66 : decode cX3_statement 66 = .ok (.aload_n 0, 1) := dk_42 (dk_at dksX3_statement_2 19 rfl rfl)
theorem dX3_statement_67 : decode cX3_statement 67 = .ok (.iload_n 1, 1) := dk_27 (dk_at dksX3_statement_2 20 rfl rfl)
theorem dX3_statement_68 : decode cX3_statement 68 = .ok (.iload 6, 2) := dk_21 6 (dk_at dksX3_statement_2 21 rfl rfl)
theorem dX3_statement_70 : decode cX3_statement 70 = .ok (.iconst 0, 1) := dk_3 (dk_at dksX3_statement_2 23 rfl rfl)
theorem dX3_statement_71 : decode cX3_statement 71 = .ok (.invokevirtual 359, 3) := dk_182 1 103 (dk_at dksX3_statement_3 0 rfl rfl)
theorem dX3_statement_74 : decode cX3_statement 74 = .ok (.dstore 7, 2) := dk_57 7 (dk_at dksX3_statement_3 3 rfl rfl)
theorem dX3_statement_76 : decode cX3_statement 76 = .ok (.iload 5, 2) := dk_21 5 (dk_at dksX3_statement_3 5 rfl rfl)
theorem dX3_statement_78 : decode cX3_statement 78 = .ok (.aload_n 0, 1) := dk_42 (dk_at dksX3_statement_3 7 rfl rfl)
theorem dX3_statement_79 : decode cX3_statement 79 = .ok (.dload 7, 2) := dk_24 7 (dk_at dksX3_statement_3 8 rfl rfl)
theorem dX3_statement_81 : decode cX3_statement 81 = .ok (.iload 4, 2) := dk_21 4 (dk_at dksX3_statement_3 10 rfl rfl)
theorem dX3_statement_83 : decode cX3_statement 83 = .ok (.invokevirtual 285, 3) := dk_182 1 29 (dk_at dksX3_statement_3 12 rfl rfl)
theorem dX3_statement_86 : decode cX3_statement 86 = .ok (.ifCond .eq 19, 3) := dk_153 0 19 (dk_at dksX3_statement_3 15 rfl rfl)
theorem dX3_statement_89 : decode cX3_statement 89 = .ok (.aload_n 0, 1) := dk_42 (dk_at dksX3_statement_3 18 rfl rfl)
theorem dX3_statement_90 : decode cX3_statement 90 = .ok (.getfield 181, 3) := dk_180 0 181 (dk_at dksX3_statement_3 19 rfl rfl)
theorem dX3_statement_93 : decode cX3_statement 93 = .ok (.lload_n 2, 1) := dk_32 (dk_at dksX3_statement_3 22 rfl rfl)
theorem dX3_statement_94 : decode cX3_statement 94 = .ok (.lcmp, 1) := dk_148 (dk_at dksX3_statement_3 23 rfl rfl)
theorem dX3_statement_95 : decode cX3_statement 95 = .ok (.ifCond .ne 10, 3) := dk_154 0 10 (dk_at dksX3_statement_4 0 rfl rfl)
theorem dX3_statement_98 : decode cX3_statement 98 = .ok (.iconst 1, 1) := dk_4 (dk_at dksX3_statement_4 3 rfl rfl)
theorem dX3_statement_99 : decode cX3_statement 99 = .ok (.iload 6, 2) := dk_21 6 (dk_at dksX3_statement_4 4 rfl rfl)
theorem dX3_statement_101 : decode cX3_statement 101 = .ok (.ishl, 1) := dk_120 (dk_at dksX3_statement_4 6 rfl rfl)
theorem dX3_statement_102 : decode cX3_statement 102 = .ok (.goto 4, 3) := dk_167 0 4 (dk_at dksX3_statement_4 7 rfl rfl)
theorem dX3_statement_105 : decode cX3_statement 105 = .ok (.iconst 0, 1) := dk_3 (dk_at dksX3_statement_4 10 rfl rfl)
theorem dX3_statement_106 : decode cX3_statement 106 = .ok (.ior, 1) := dk_128 (dk_at dksX3_statement_4 11 rfl rfl)
theorem dX3_statement_107 : decode cX3_statement 107 = .ok (.istore 5, 2) := dk_54 5 (dk_at dksX3_statement_4 12 rfl rfl)
theorem dX3_statement_109 : decode cX3_statement 109 = .ok (.iinc 6 1, 3) := dk_132 6 1 (dk_at dksX3_statement_4 14 rfl rfl)
theorem dX3_statement_112 : decode cX3_statement 112 = .ok (.goto (-67), 3) := dk_167 255 189 (dk_at dksX3_statement_4 17 rfl rfl)
theorem dX3_statement_115 : decode cX3_statement 115 = .ok (.iload 5, 2) := dk_21 5 (dk_at dksX3_statement_4 20 rfl rfl)
theorem dX3_statement_117 : decode cX3_statement 117 = .ok (.ireturn, 1) := dk_172 (dk_at dksX3_statement_4 22 rfl rfl)
abbrev cX3_split : ByteArray := prog_27_method_93_code
def yX3_split : MethodName := ⟨RX3, "split", "(II)I"⟩
def dkwX3_split_17 : List UInt8 := [46, 158, 0, 7, 4, 167, 0, 4, 3, 96, 54, 5, 132, 6, 1, 167, 255, 226, 21, 5, 172]
abbrev dktX3_split_17 : List UInt8 := dkwX3_split_17 ++ []
def dkwX3_split_16 : List UInt8 := [167, 255, 186, 3, 54, 5, 3, 54, 6, 21, 6, 16, 10, 162, 0, 29, 21, 5, 42, 180, 0, 76, 21, 6]
abbrev dktX3_split_16 : List UInt8 := dkwX3_split_16 ++ dktX3_split_17
def dkwX3_split_15 : List UInt8 := [42, 180, 0, 76, 21, 5, 92, 46, 4, 96, 79, 42, 7, 21, 5, 96, 182, 0, 109, 132, 4, 255]
abbrev dktX3_split_15 : List UInt8 := dkwX3_split_15 ++ dktX3_split_16
def dkwX3_split_14 : List UInt8 := [21, 5, 96, 182, 1, 127, 158, 0, 8, 21, 6, 167, 0, 5, 21, 5, 54, 5, 132, 6, 1, 167, 255, 222]
abbrev dktX3_split_14 : List UInt8 := dkwX3_split_14 ++ dktX3_split_15
def dkwX3_split_13 : List UInt8 := [21, 4, 158, 0, 71, 3, 54, 5, 4, 54, 6, 21, 6, 16, 10, 162, 0, 33, 42, 7, 21, 6, 96, 7]
abbrev dktX3_split_13 : List UInt8 := dkwX3_split_13 ++ dktX3_split_14
def dkwX3_split_12 : List UInt8 := [182, 1, 134, 42, 4, 182, 0, 125, 42, 7, 21, 5, 96, 4, 182, 0, 132, 132, 5, 1, 167, 255, 126]
abbrev dktX3_split_12 : List UInt8 := dkwX3_split_12 ++ dktX3_split_13
def dkwX3_split_11 : List UInt8 := [21, 5, 21, 6, 79, 21, 4, 21, 6, 100, 54, 4, 42, 4, 3, 182, 0, 139, 42, 4, 21, 6, 133]
abbrev dktX3_split_11 : List UInt8 := dkwX3_split_11 ++ dktX3_split_12
def dkwX3_split_10 : List UInt8 := [182, 1, 127, 157, 0, 10, 21, 8, 54, 6, 167, 0, 7, 21, 8, 54, 7, 167, 255, 201, 42, 180, 0, 76]
abbrev dktX3_split_10 : List UInt8 := dkwX3_split_10 ++ dktX3_split_11
def dkwX3_split_9 : List UInt8 := [54, 8, 42, 4, 3, 182, 0, 139, 42, 4, 21, 8, 133, 182, 1, 134, 42, 4, 7, 21, 5, 96]
abbrev dktX3_split_9 : List UInt8 := dkwX3_split_9 ++ dktX3_split_10
def dkwX3_split_8 : List UInt8 := [54, 6, 28, 4, 96, 54, 7, 21, 7, 21, 6, 100, 4, 164, 0, 52, 21, 6, 21, 7, 96, 5, 108]
abbrev dktX3_split_8 : List UInt8 := dkwX3_split_8 ++ dktX3_split_9
def dkwX3_split_7 : List UInt8 := [28, 54, 4, 3, 54, 5, 21, 5, 16, 10, 162, 0, 129, 42, 7, 21, 5, 96, 28, 133, 182, 1, 134, 3]
abbrev dktX3_split_7 : List UInt8 := dkwX3_split_7 ++ dktX3_split_8
def dkwX3_split_6 : List UInt8 := [167, 255, 160, 42, 3, 27, 182, 1, 142, 29, 153, 0, 11, 42, 3, 182, 0, 136, 154, 0, 6, 16, 152, 172]
abbrev dktX3_split_6 : List UInt8 := dkwX3_split_6 ++ dktX3_split_7
def dkwX3_split_5 : List UInt8 := [153, 0, 18, 42, 7, 21, 4, 96, 182, 0, 136, 155, 0, 7, 4, 167, 0, 4, 3, 62, 132, 4, 1]
abbrev dktX3_split_5 : List UInt8 := dkwX3_split_5 ++ dktX3_split_6
def dkwX3_split_4 : List UInt8 := [96, 42, 180, 0, 17, 16, 60, 27, 104, 21, 5, 96, 49, 182, 0, 158, 132, 5, 1, 167, 255, 205, 29]
abbrev dktX3_split_4 : List UInt8 := dkwX3_split_4 ++ dktX3_split_5
def dkwX3_split_3 : List UInt8 := [162, 0, 46, 42, 180, 0, 21, 16, 60, 27, 104, 21, 5, 96, 46, 21, 4, 160, 0, 23, 42, 7, 21, 4]
abbrev dktX3_split_3 : List UInt8 := dkwX3_split_3 ++ dktX3_split_4
def dkwX3_split_2 : List UInt8 := [162, 0, 95, 42, 7, 21, 4, 96, 182, 0, 109, 3, 54, 5, 21, 5, 42, 180, 0, 7, 27, 46]
abbrev dktX3_split_2 : List UInt8 := dkwX3_split_2 ++ dktX3_split_3
def dkwX3_split_1 : List UInt8 := [182, 0, 103, 181, 0, 94, 42, 180, 0, 94, 153, 0, 5, 3, 172, 4, 62, 3, 54, 4, 21, 4, 16, 10]
abbrev dktX3_split_1 : List UInt8 := dkwX3_split_1 ++ dktX3_split_2
def dkwX3_split_0 : List UInt8 := [42, 3, 181, 0, 94, 28, 133, 9, 20, 1, 174, 184, 0, 99, 154, 0, 6, 16, 154, 172, 42, 42, 27]
abbrev dktX3_split_0 : List UInt8 := dkwX3_split_0 ++ dktX3_split_1
theorem dksX3_split_0 : cX3_split.data.toList.drop 0 = dktX3_split_0 := by decide +kernel
theorem dksX3_split_1 : cX3_split.data.toList.drop 23 = dktX3_split_1 := dk_seg dksX3_split_0 23 rfl rfl
theorem dksX3_split_2 : cX3_split.data.toList.drop 47 = dktX3_split_2 := dk_seg dksX3_split_1 24 rfl rfl
theorem dksX3_split_3 : cX3_split.data.toList.drop 69 = dktX3_split_3 := dk_seg dksX3_split_2 22 rfl rfl
theorem dksX3_split_4 : cX3_split.data.toList.drop 93 = dktX3_split_4 := dk_seg dksX3_split_3 24 rfl rfl
theorem dksX3_split_5 : cX3_split.data.toList.drop 116 = dktX3_split_5 := dk_seg dksX3_split_4 23 rfl rfl
theorem dksX3_split_6 : cX3_split.data.toList.drop 139 = dktX3_split_6 := dk_seg dksX3_split_5 23 rfl rfl
theorem dksX3_split_7 : cX3_split.data.toList.drop 163 = dktX3_split_7 := dk_seg dksX3_split_6 24 rfl rfl
theorem dksX3_split_8 : cX3_split.data.toList.drop 187 = dktX3_split_8 := dk_seg dksX3_split_7 24 rfl rfl
theorem dksX3_split_9 : cX3_split.data.toList.drop 210 = dktX3_split_9 := dk_seg dksX3_split_8 23 rfl rfl
theorem dksX3_split_10 : cX3_split.data.toList.drop 232 = dktX3_split_10 := dk_seg dksX3_split_9 22 rfl rfl
theorem dksX3_split_11 : cX3_split.data.toList.drop 256 = dktX3_split_11 := dk_seg dksX3_split_10 24 rfl rfl
theorem dksX3_split_12 : cX3_split.data.toList.drop 279 = dktX3_split_12 := dk_seg dksX3_split_11 23 rfl rfl
theorem dksX3_split_13 : cX3_split.data.toList.drop 302 = dktX3_split_13 := dk_seg dksX3_split_12 23 rfl rfl
theorem dksX3_split_14 : cX3_split.data.toList.drop 326 = dktX3_split_14 := dk_seg dksX3_split_13 24 rfl rfl
theorem dksX3_split_15 : cX3_split.data.toList.drop 350 = dktX3_split_15 := dk_seg dksX3_split_14 24 rfl rfl
theorem dksX3_split_16 : cX3_split.data.toList.drop 372 = dktX3_split_16 := dk_seg dksX3_split_15 22 rfl rfl
theorem dksX3_split_17 : cX3_split.data.toList.drop 396 = dktX3_split_17 := dk_seg dksX3_split_16 24 rfl rfl
theorem dX3_split_0 : decode cX3_split 0 = .ok (.aload_n 0, 1) := dk_42 (dk_at dksX3_split_0 0 rfl rfl)
theorem dX3_split_1 : decode cX3_split 1 = .ok (.iconst 0, 1) := dk_3 (dk_at dksX3_split_0 1 rfl rfl)
theorem dX3_split_2 : decode cX3_split 2 = .ok (.putfield 94, 3) := dk_181 0 94 (dk_at dksX3_split_0 2 rfl rfl)
theorem dX3_split_5 : decode cX3_split 5 = .ok (.iload_n 2, 1) := dk_28 (dk_at dksX3_split_0 5 rfl rfl)
theorem dX3_split_6 : decode cX3_split 6 = .ok (.i2l, 1) := dk_133 (dk_at dksX3_split_0 6 rfl rfl)
theorem dX3_split_7 : decode cX3_split 7 = .ok (.lconst 0, 1) := dk_9 (dk_at dksX3_split_0 7 rfl rfl)
theorem dX3_split_8 : decode cX3_split 8 = .ok (.ldc2_w 430, 3) := dk_20 1 174 (dk_at dksX3_split_0 8 rfl rfl)
theorem dX3_split_11 : decode cX3_split 11 = .ok (.invokestatic 99, 3) := dk_184 0 99 (dk_at dksX3_split_0 11 rfl rfl)
theorem dX3_split_14 : decode cX3_split 14 = .ok (.ifCond .ne 6, 3) := dk_154 0 6 (dk_at dksX3_split_0 14 rfl rfl)
theorem dX3_split_17 : decode cX3_split 17 = .ok (.bipush (-102), 2) := dk_16 154 (dk_at dksX3_split_0 17 rfl rfl)
theorem dX3_split_19 : decode cX3_split 19 = .ok (.ireturn, 1) := dk_172 (dk_at dksX3_split_0 19 rfl rfl)
theorem dX3_split_20 : decode cX3_split 20 = .ok (.aload_n 0, 1) := dk_42 (dk_at dksX3_split_0 20 rfl rfl)
theorem dX3_split_21 : decode cX3_split 21 = .ok (.aload_n 0, 1) := dk_42 (dk_at dksX3_split_0 21 rfl rfl)
theorem dX3_split_22 : decode cX3_split 22 = .ok (.iload_n 1, 1) := dk_27 (dk_at dksX3_split_0 22 rfl rfl)
theorem dX3_split_23 : decode cX3_split 23 = .ok (.invokevirtual 103, 3) := dk_182 0 103 (dk_at dksX3_split_1 0 rfl rfl)
theorem dX3_split_26 : decode cX3_split 26 = .ok (.putfield 94, 3) := dk_181 0 94 (dk_at dksX3_split_1 3 rfl rfl)
theorem dX3_split_29 : decode cX3_split 29 = .ok (.aload_n 0, 1) := dk_42 (dk_at dksX3_split_1 6 rfl rfl)
theorem dX3_split_30 : decode cX3_split 30 = .ok (.getfield 94, 3) := dk_180 0 94 (dk_at dksX3_split_1 7 rfl rfl)
theorem dX3_split_33 : decode cX3_split 33 = .ok (.ifCond .eq 5, 3) := dk_153 0 5 (dk_at dksX3_split_1 10 rfl rfl)
theorem dX3_split_36 : decode cX3_split 36 = .ok (.iconst 0, 1) := dk_3 (dk_at dksX3_split_1 13 rfl rfl)
theorem dX3_split_37 : decode cX3_split 37 = .ok (.ireturn, 1) := dk_172 (dk_at dksX3_split_1 14 rfl rfl)
theorem dX3_split_38 : decode cX3_split 38 = .ok (.iconst 1, 1) := dk_4 (dk_at dksX3_split_1 15 rfl rfl)
theorem dX3_split_39 : decode cX3_split 39 = .ok (.istore_n 3, 1) := dk_62 (dk_at dksX3_split_1 16 rfl rfl)
theorem dX3_split_40 : decode cX3_split 40 = .ok (.iconst 0, 1) := dk_3 (dk_at dksX3_split_1 17 rfl rfl)
theorem dX3_split_41 : decode cX3_split 41 = .ok (.istore 4, 2) := dk_54 4 (dk_at dksX3_split_1 18 rfl rfl)
theorem dX3_split_43 : decode cX3_split 43 = .ok (.iload 4, 2) := dk_21 4 (dk_at dksX3_split_1 20 rfl rfl)
theorem dX3_split_45 : decode cX3_split 45 = .ok (.bipush 10, 2) := dk_16 10 (dk_at dksX3_split_1 22 rfl rfl)
theorem dX3_split_47 : decode cX3_split 47 = .ok (.if_icmp .ge 95, 3) := dk_162 0 95 (dk_at dksX3_split_2 0 rfl rfl)
theorem dX3_split_50 : decode cX3_split 50 = .ok (.aload_n 0, 1) := dk_42 (dk_at dksX3_split_2 3 rfl rfl)
theorem dX3_split_51 : decode cX3_split 51 = .ok (.iconst 4, 1) := dk_7 (dk_at dksX3_split_2 4 rfl rfl)
theorem dX3_split_52 : decode cX3_split 52 = .ok (.iload 4, 2) := dk_21 4 (dk_at dksX3_split_2 5 rfl rfl)
theorem dX3_split_54 : decode cX3_split 54 = .ok (.iadd, 1) := dk_96 (dk_at dksX3_split_2 7 rfl rfl)
theorem dX3_split_55 : decode cX3_split 55 = .ok (.invokevirtual 109, 3) := dk_182 0 109 (dk_at dksX3_split_2 8 rfl rfl)
theorem dX3_split_58 : decode cX3_split 58 = .ok (.iconst 0, 1) := dk_3 (dk_at dksX3_split_2 11 rfl rfl)
theorem dX3_split_59 : decode cX3_split 59 = .ok (.istore 5, 2) := dk_54 5 (dk_at dksX3_split_2 12 rfl rfl)
theorem dX3_split_61 : decode cX3_split 61 = .ok (.iload 5, 2) := dk_21 5 (dk_at dksX3_split_2 14 rfl rfl)
theorem dX3_split_63 : decode cX3_split 63 = .ok (.aload_n 0, 1) := dk_42 (dk_at dksX3_split_2 16 rfl rfl)
theorem dX3_split_64 : decode cX3_split 64 = .ok (.getfield 7, 3) := dk_180 0 7 (dk_at dksX3_split_2 17 rfl rfl)
theorem dX3_split_67 : decode cX3_split 67 = .ok (.iload_n 1, 1) := dk_27 (dk_at dksX3_split_2 20 rfl rfl)
theorem dX3_split_68 : decode cX3_split 68 = .ok (.iaload, 1) := dk_46 (dk_at dksX3_split_2 21 rfl rfl)
theorem dX3_split_69 : decode cX3_split 69 = .ok (.if_icmp .ge 46, 3) := dk_162 0 46 (dk_at dksX3_split_3 0 rfl rfl)
theorem dX3_split_72 : decode cX3_split 72 = .ok (.aload_n 0, 1) := dk_42 (dk_at dksX3_split_3 3 rfl rfl)
theorem dX3_split_73 : decode cX3_split 73 = .ok (.getfield 21, 3) := dk_180 0 21 (dk_at dksX3_split_3 4 rfl rfl)
theorem dX3_split_76 : decode cX3_split 76 = .ok (.bipush 60, 2) := dk_16 60 (dk_at dksX3_split_3 7 rfl rfl)
theorem dX3_split_78 : decode cX3_split 78 = .ok (.iload_n 1, 1) := dk_27 (dk_at dksX3_split_3 9 rfl rfl)
theorem dX3_split_79 : decode cX3_split 79 = .ok (.imul, 1) := dk_104 (dk_at dksX3_split_3 10 rfl rfl)
theorem dX3_split_80 : decode cX3_split 80 = .ok (.iload 5, 2) := dk_21 5 (dk_at dksX3_split_3 11 rfl rfl)
theorem dX3_split_82 : decode cX3_split 82 = .ok (.iadd, 1) := dk_96 (dk_at dksX3_split_3 13 rfl rfl)
theorem dX3_split_83 : decode cX3_split 83 = .ok (.iaload, 1) := dk_46 (dk_at dksX3_split_3 14 rfl rfl)
theorem dX3_split_84 : decode cX3_split 84 = .ok (.iload 4, 2) := dk_21 4 (dk_at dksX3_split_3 15 rfl rfl)
theorem dX3_split_86 : decode cX3_split 86 = .ok (.if_icmp .ne 23, 3) := dk_160 0 23 (dk_at dksX3_split_3 17 rfl rfl)
theorem dX3_split_89 : decode cX3_split 89 = .ok (.aload_n 0, 1) := dk_42 (dk_at dksX3_split_3 20 rfl rfl)
theorem dX3_split_90 : decode cX3_split 90 = .ok (.iconst 4, 1) := dk_7 (dk_at dksX3_split_3 21 rfl rfl)
theorem dX3_split_91 : decode cX3_split 91 = .ok (.iload 4, 2) := dk_21 4 (dk_at dksX3_split_3 22 rfl rfl)
theorem dX3_split_93 : decode cX3_split 93 = .ok (.iadd, 1) := dk_96 (dk_at dksX3_split_4 0 rfl rfl)
theorem dX3_split_94 : decode cX3_split 94 = .ok (.aload_n 0, 1) := dk_42 (dk_at dksX3_split_4 1 rfl rfl)
theorem dX3_split_95 : decode cX3_split 95 = .ok (.getfield 17, 3) := dk_180 0 17 (dk_at dksX3_split_4 2 rfl rfl)
theorem dX3_split_98 : decode cX3_split 98 = .ok (.bipush 60, 2) := dk_16 60 (dk_at dksX3_split_4 5 rfl rfl)
theorem dX3_split_100 : decode cX3_split 100 = .ok (.iload_n 1, 1) := dk_27 (dk_at dksX3_split_4 7 rfl rfl)
theorem dX3_split_101 : decode cX3_split 101 = .ok (.imul, 1) := dk_104 (dk_at dksX3_split_4 8 rfl rfl)
theorem dX3_split_102 : decode cX3_split 102 = .ok (.iload 5, 2) := dk_21 5 (dk_at dksX3_split_4 9 rfl rfl)
theorem dX3_split_104 : decode cX3_split 104 = .ok (.iadd, 1) := dk_96 (dk_at dksX3_split_4 11 rfl rfl)
theorem dX3_split_105 : decode cX3_split 105 = .ok (.daload, 1) := dk_49 (dk_at dksX3_split_4 12 rfl rfl)
theorem dX3_split_106 : decode cX3_split 106 = .ok (.invokevirtual 158, 3) := dk_182 0 158 (dk_at dksX3_split_4 13 rfl rfl)
theorem dX3_split_109 : decode cX3_split 109 = .ok (.iinc 5 1, 3) := dk_132 5 1 (dk_at dksX3_split_4 16 rfl rfl)
theorem dX3_split_112 : decode cX3_split 112 = .ok (.goto (-51), 3) := dk_167 255 205 (dk_at dksX3_split_4 19 rfl rfl)
theorem dX3_split_115 : decode cX3_split 115 = .ok (.iload_n 3, 1) := dk_29 (dk_at dksX3_split_4 22 rfl rfl)
theorem dX3_split_116 : decode cX3_split 116 = .ok (.ifCond .eq 18, 3) := dk_153 0 18 (dk_at dksX3_split_5 0 rfl rfl)
theorem dX3_split_119 : decode cX3_split 119 = .ok (.aload_n 0, 1) := dk_42 (dk_at dksX3_split_5 3 rfl rfl)
theorem dX3_split_120 : decode cX3_split 120 = .ok (.iconst 4, 1) := dk_7 (dk_at dksX3_split_5 4 rfl rfl)
theorem dX3_split_121 : decode cX3_split 121 = .ok (.iload 4, 2) := dk_21 4 (dk_at dksX3_split_5 5 rfl rfl)
theorem dX3_split_123 : decode cX3_split 123 = .ok (.iadd, 1) := dk_96 (dk_at dksX3_split_5 7 rfl rfl)
theorem dX3_split_124 : decode cX3_split 124 = .ok (.invokevirtual 136, 3) := dk_182 0 136 (dk_at dksX3_split_5 8 rfl rfl)
theorem dX3_split_127 : decode cX3_split 127 = .ok (.ifCond .lt 7, 3) := dk_155 0 7 (dk_at dksX3_split_5 11 rfl rfl)
theorem dX3_split_130 : decode cX3_split 130 = .ok (.iconst 1, 1) := dk_4 (dk_at dksX3_split_5 14 rfl rfl)
theorem dX3_split_131 : decode cX3_split 131 = .ok (.goto 4, 3) := dk_167 0 4 (dk_at dksX3_split_5 15 rfl rfl)
theorem dX3_split_134 : decode cX3_split 134 = .ok (.iconst 0, 1) := dk_3 (dk_at dksX3_split_5 18 rfl rfl)
theorem dX3_split_135 : decode cX3_split 135 = .ok (.istore_n 3, 1) := dk_62 (dk_at dksX3_split_5 19 rfl rfl)
theorem dX3_split_136 : decode cX3_split 136 = .ok (.iinc 4 1, 3) := dk_132 4 1 (dk_at dksX3_split_5 20 rfl rfl)
theorem dX3_split_139 : decode cX3_split 139 = .ok (.goto (-96), 3) := dk_167 255 160 (dk_at dksX3_split_6 0 rfl rfl)
theorem dX3_split_142 : decode cX3_split 142 = .ok (.aload_n 0, 1) := dk_42 (dk_at dksX3_split_6 3 rfl rfl)
theorem dX3_split_143 : decode cX3_split 143 = .ok (.iconst 0, 1) := dk_3 (dk_at dksX3_split_6 4 rfl rfl)
theorem dX3_split_144 : decode cX3_split 144 = .ok (.iload_n 1, 1) := dk_27 (dk_at dksX3_split_6 5 rfl rfl)
theorem dX3_split_145 : decode cX3_split 145 = .ok (.invokevirtual 398, 3) := dk_182 1 142 (dk_at dksX3_split_6 6 rfl rfl)
theorem dX3_split_148 : decode cX3_split 148 = .ok (.iload_n 3, 1) := dk_29 (dk_at dksX3_split_6 9 rfl rfl)
theorem dX3_split_149 : decode cX3_split 149 = .ok (.ifCond .eq 11, 3) := dk_153 0 11 (dk_at dksX3_split_6 10 rfl rfl)
theorem dX3_split_152 : decode cX3_split 152 = .ok (.aload_n 0, 1) := dk_42 (dk_at dksX3_split_6 13 rfl rfl)
theorem dX3_split_153 : decode cX3_split 153 = .ok (.iconst 0, 1) := dk_3 (dk_at dksX3_split_6 14 rfl rfl)
theorem dX3_split_154 : decode cX3_split 154 = .ok (.invokevirtual 136, 3) := dk_182 0 136 (dk_at dksX3_split_6 15 rfl rfl)
theorem dX3_split_157 : decode cX3_split 157 = .ok (.ifCond .ne 6, 3) := dk_154 0 6 (dk_at dksX3_split_6 18 rfl rfl)
theorem dX3_split_160 : decode cX3_split 160 = .ok (.bipush (-104), 2) := dk_16 152 (dk_at dksX3_split_6 21 rfl rfl)
theorem dX3_split_162 : decode cX3_split 162 = .ok (.ireturn, 1) := dk_172 (dk_at dksX3_split_6 23 rfl rfl)
theorem dX3_split_163 : decode cX3_split 163 = .ok (.iload_n 2, 1) := dk_28 (dk_at dksX3_split_7 0 rfl rfl)
theorem dX3_split_164 : decode cX3_split 164 = .ok (.istore 4, 2) := dk_54 4 (dk_at dksX3_split_7 1 rfl rfl)
theorem dX3_split_166 : decode cX3_split 166 = .ok (.iconst 0, 1) := dk_3 (dk_at dksX3_split_7 3 rfl rfl)
theorem dX3_split_167 : decode cX3_split 167 = .ok (.istore 5, 2) := dk_54 5 (dk_at dksX3_split_7 4 rfl rfl)
theorem dX3_split_169 : decode cX3_split 169 = .ok (.iload 5, 2) := dk_21 5 (dk_at dksX3_split_7 6 rfl rfl)
theorem dX3_split_171 : decode cX3_split 171 = .ok (.bipush 10, 2) := dk_16 10 (dk_at dksX3_split_7 8 rfl rfl)
theorem dX3_split_173 : decode cX3_split 173 = .ok (.if_icmp .ge 129, 3) := dk_162 0 129 (dk_at dksX3_split_7 10 rfl rfl)
theorem dX3_split_176 : decode cX3_split 176 = .ok (.aload_n 0, 1) := dk_42 (dk_at dksX3_split_7 13 rfl rfl)
theorem dX3_split_177 : decode cX3_split 177 = .ok (.iconst 4, 1) := dk_7 (dk_at dksX3_split_7 14 rfl rfl)
theorem dX3_split_178 : decode cX3_split 178 = .ok (.iload 5, 2) := dk_21 5 (dk_at dksX3_split_7 15 rfl rfl)
theorem dX3_split_180 : decode cX3_split 180 = .ok (.iadd, 1) := dk_96 (dk_at dksX3_split_7 17 rfl rfl)
theorem dX3_split_181 : decode cX3_split 181 = .ok (.iload_n 2, 1) := dk_28 (dk_at dksX3_split_7 18 rfl rfl)
theorem dX3_split_182 : decode cX3_split 182 = .ok (.i2l, 1) := dk_133 (dk_at dksX3_split_7 19 rfl rfl)
theorem dX3_split_183 : decode cX3_split 183 = .ok (.invokevirtual 390, 3) := dk_182 1 134 (dk_at dksX3_split_7 20 rfl rfl)
theorem dX3_split_186 : decode cX3_split 186 = .ok (.iconst 0, 1) := dk_3 (dk_at dksX3_split_7 23 rfl rfl)
theorem dX3_split_187 : decode cX3_split 187 = .ok (.istore 6, 2) := dk_54 6 (dk_at dksX3_split_8 0 rfl rfl)
theorem dX3_split_189 : decode cX3_split 189 = .ok (.iload_n 2, 1) := dk_28 (dk_at dksX3_split_8 2 rfl rfl)
theorem dX3_split_190 : decode cX3_split 190 = .ok (.iconst 1, 1) := dk_4 (dk_at dksX3_split_8 3 rfl rfl)
theorem dX3_split_191 : decode cX3_split 191 = .ok (.iadd, 1) := dk_96 (dk_at dksX3_split_8 4 rfl rfl)
theorem dX3_split_192 : decode cX3_split 192 = .ok (.istore 7, 2) := dk_54 7 (dk_at dksX3_split_8 5 rfl rfl)
theorem dX3_split_194 : decode cX3_split 194 = .ok (.iload 7, 2) := dk_21 7 (dk_at dksX3_split_8 7 rfl rfl)
theorem dX3_split_196 : decode cX3_split 196 = .ok (.iload 6, 2) := dk_21 6 (dk_at dksX3_split_8 9 rfl rfl)
theorem dX3_split_198 : decode cX3_split 198 = .ok (.isub, 1) := dk_100 (dk_at dksX3_split_8 11 rfl rfl)
theorem dX3_split_199 : decode cX3_split 199 = .ok (.iconst 1, 1) := dk_4 (dk_at dksX3_split_8 12 rfl rfl)
theorem dX3_split_200 : decode cX3_split 200 = .ok (.if_icmp .le 52, 3) := dk_164 0 52 (dk_at dksX3_split_8 13 rfl rfl)
theorem dX3_split_203 : decode cX3_split 203 = .ok (.iload 6, 2) := dk_21 6 (dk_at dksX3_split_8 16 rfl rfl)
theorem dX3_split_205 : decode cX3_split 205 = .ok (.iload 7, 2) := dk_21 7 (dk_at dksX3_split_8 18 rfl rfl)
theorem dX3_split_207 : decode cX3_split 207 = .ok (.iadd, 1) := dk_96 (dk_at dksX3_split_8 20 rfl rfl)
theorem dX3_split_208 : decode cX3_split 208 = .ok (.iconst 2, 1) := dk_5 (dk_at dksX3_split_8 21 rfl rfl)
theorem dX3_split_209 : decode cX3_split 209 = .ok (.idiv, 1) := dk_108 (dk_at dksX3_split_8 22 rfl rfl)
theorem dX3_split_210 : decode cX3_split 210 = .ok (.istore 8, 2) := dk_54 8 (dk_at dksX3_split_9 0 rfl rfl)
theorem dX3_split_212 : decode cX3_split 212 = .ok (.aload_n 0, 1) := dk_42 (dk_at dksX3_split_9 2 rfl rfl)
theorem dX3_split_213 : decode cX3_split 213 = .ok (.iconst 1, 1) := dk_4 (dk_at dksX3_split_9 3 rfl rfl)
theorem dX3_split_214 : decode cX3_split 214 = .ok (.iconst 0, 1) := dk_3 (dk_at dksX3_split_9 4 rfl rfl)
theorem dX3_split_215 : decode cX3_split 215 = .ok (.invokevirtual 139, 3) := dk_182 0 139 (dk_at dksX3_split_9 5 rfl rfl)
theorem dX3_split_218 : decode cX3_split 218 = .ok (.aload_n 0, 1) := dk_42 (dk_at dksX3_split_9 8 rfl rfl)
theorem dX3_split_219 : decode cX3_split 219 = .ok (.iconst 1, 1) := dk_4 (dk_at dksX3_split_9 9 rfl rfl)
theorem dX3_split_220 : decode cX3_split 220 = .ok (.iload 8, 2) := dk_21 8 (dk_at dksX3_split_9 10 rfl rfl)
theorem dX3_split_222 : decode cX3_split 222 = .ok (.i2l, 1) := dk_133 (dk_at dksX3_split_9 12 rfl rfl)
theorem dX3_split_223 : decode cX3_split 223 = .ok (.invokevirtual 390, 3) := dk_182 1 134 (dk_at dksX3_split_9 13 rfl rfl)
theorem dX3_split_226 : decode cX3_split 226 = .ok (.aload_n 0, 1) := dk_42 (dk_at dksX3_split_9 16 rfl rfl)
theorem dX3_split_227 : decode cX3_split 227 = .ok (.iconst 1, 1) := dk_4 (dk_at dksX3_split_9 17 rfl rfl)
theorem dX3_split_228 : decode cX3_split 228 = .ok (.iconst 4, 1) := dk_7 (dk_at dksX3_split_9 18 rfl rfl)
theorem dX3_split_229 : decode cX3_split 229 = .ok (.iload 5, 2) := dk_21 5 (dk_at dksX3_split_9 19 rfl rfl)
theorem dX3_split_231 : decode cX3_split 231 = .ok (.iadd, 1) := dk_96 (dk_at dksX3_split_9 21 rfl rfl)
theorem dX3_split_232 : decode cX3_split 232 = .ok (.invokevirtual 383, 3) := dk_182 1 127 (dk_at dksX3_split_10 0 rfl rfl)
theorem dX3_split_235 : decode cX3_split 235 = .ok (.ifCond .gt 10, 3) := dk_157 0 10 (dk_at dksX3_split_10 3 rfl rfl)
theorem dX3_split_238 : decode cX3_split 238 = .ok (.iload 8, 2) := dk_21 8 (dk_at dksX3_split_10 6 rfl rfl)
theorem dX3_split_240 : decode cX3_split 240 = .ok (.istore 6, 2) := dk_54 6 (dk_at dksX3_split_10 8 rfl rfl)
theorem dX3_split_242 : decode cX3_split 242 = .ok (.goto 7, 3) := dk_167 0 7 (dk_at dksX3_split_10 10 rfl rfl)
theorem dX3_split_245 : decode cX3_split 245 = .ok (.iload 8, 2) := dk_21 8 (dk_at dksX3_split_10 13 rfl rfl)
theorem dX3_split_247 : decode cX3_split 247 = .ok (.istore 7, 2) := dk_54 7 (dk_at dksX3_split_10 15 rfl rfl)
theorem dX3_split_249 : decode cX3_split 249 = .ok (.goto (-55), 3) := dk_167 255 201 (dk_at dksX3_split_10 17 rfl rfl)
theorem dX3_split_252 : decode cX3_split 252 = .ok (.aload_n 0, 1) := dk_42 (dk_at dksX3_split_10 20 rfl rfl)
theorem dX3_split_253 : decode cX3_split 253 = .ok (.getfield 76, 3) := dk_180 0 76 (dk_at dksX3_split_10 21 rfl rfl)
theorem dX3_split_256 : decode cX3_split 256 = .ok (.iload 5, 2) := dk_21 5 (dk_at dksX3_split_11 0 rfl rfl)
theorem dX3_split_258 : decode cX3_split 258 = .ok (.iload 6, 2) := dk_21 6 (dk_at dksX3_split_11 2 rfl rfl)
theorem dX3_split_260 : decode cX3_split 260 = .ok (.iastore, 1) := dk_79 (dk_at dksX3_split_11 4 rfl rfl)
theorem dX3_split_261 : decode cX3_split 261 = .ok (.iload 4, 2) := dk_21 4 (dk_at dksX3_split_11 5 rfl rfl)
theorem dX3_split_263 : decode cX3_split 263 = .ok (.iload 6, 2) := dk_21 6 (dk_at dksX3_split_11 7 rfl rfl)
theorem dX3_split_265 : decode cX3_split 265 = .ok (.isub, 1) := dk_100 (dk_at dksX3_split_11 9 rfl rfl)
theorem dX3_split_266 : decode cX3_split 266 = .ok (.istore 4, 2) := dk_54 4 (dk_at dksX3_split_11 10 rfl rfl)
theorem dX3_split_268 : decode cX3_split 268 = .ok (.aload_n 0, 1) := dk_42 (dk_at dksX3_split_11 12 rfl rfl)
theorem dX3_split_269 : decode cX3_split 269 = .ok (.iconst 1, 1) := dk_4 (dk_at dksX3_split_11 13 rfl rfl)
theorem dX3_split_270 : decode cX3_split 270 = .ok (.iconst 0, 1) := dk_3 (dk_at dksX3_split_11 14 rfl rfl)
theorem dX3_split_271 : decode cX3_split 271 = .ok (.invokevirtual 139, 3) := dk_182 0 139 (dk_at dksX3_split_11 15 rfl rfl)
theorem dX3_split_274 : decode cX3_split 274 = .ok (.aload_n 0, 1) := dk_42 (dk_at dksX3_split_11 18 rfl rfl)
theorem dX3_split_275 : decode cX3_split 275 = .ok (.iconst 1, 1) := dk_4 (dk_at dksX3_split_11 19 rfl rfl)
theorem dX3_split_276 : decode cX3_split 276 = .ok (.iload 6, 2) := dk_21 6 (dk_at dksX3_split_11 20 rfl rfl)
theorem dX3_split_278 : decode cX3_split 278 = .ok (.i2l, 1) := dk_133 (dk_at dksX3_split_11 22 rfl rfl)
theorem dX3_split_279 : decode cX3_split 279 = .ok (.invokevirtual 390, 3) := dk_182 1 134 (dk_at dksX3_split_12 0 rfl rfl)
theorem dX3_split_282 : decode cX3_split 282 = .ok (.aload_n 0, 1) := dk_42 (dk_at dksX3_split_12 3 rfl rfl)
theorem dX3_split_283 : decode cX3_split 283 = .ok (.iconst 1, 1) := dk_4 (dk_at dksX3_split_12 4 rfl rfl)
theorem dX3_split_284 : decode cX3_split 284 = .ok (.invokevirtual 125, 3) := dk_182 0 125 (dk_at dksX3_split_12 5 rfl rfl)
theorem dX3_split_287 : decode cX3_split 287 = .ok (.aload_n 0, 1) := dk_42 (dk_at dksX3_split_12 8 rfl rfl)
theorem dX3_split_288 : decode cX3_split 288 = .ok (.iconst 4, 1) := dk_7 (dk_at dksX3_split_12 9 rfl rfl)
theorem dX3_split_289 : decode cX3_split 289 = .ok (.iload 5, 2) := dk_21 5 (dk_at dksX3_split_12 10 rfl rfl)
theorem dX3_split_291 : decode cX3_split 291 = .ok (.iadd, 1) := dk_96 (dk_at dksX3_split_12 12 rfl rfl)
theorem dX3_split_292 : decode cX3_split 292 = .ok (.iconst 1, 1) := dk_4 (dk_at dksX3_split_12 13 rfl rfl)
theorem dX3_split_293 : decode cX3_split 293 = .ok (.invokevirtual 132, 3) := dk_182 0 132 (dk_at dksX3_split_12 14 rfl rfl)
theorem dX3_split_296 : decode cX3_split 296 = .ok (.iinc 5 1, 3) := dk_132 5 1 (dk_at dksX3_split_12 17 rfl rfl)
theorem dX3_split_299 : decode cX3_split 299 = .ok (.goto (-130), 3) := dk_167 255 126 (dk_at dksX3_split_12 20 rfl rfl)
theorem dX3_split_302 : decode cX3_split 302 = .ok (.iload 4, 2) := dk_21 4 (dk_at dksX3_split_13 0 rfl rfl)
theorem dX3_split_304 : decode cX3_split 304 = .ok (.ifCond .le 71, 3) := dk_158 0 71 (dk_at dksX3_split_13 2 rfl rfl)
theorem dX3_split_307 : decode cX3_split 307 = .ok (.iconst 0, 1) := dk_3 (dk_at dksX3_split_13 5 rfl rfl)
theorem dX3_split_308 : decode cX3_split 308 = .ok (.istore 5, 2) := dk_54 5 (dk_at dksX3_split_13 6 rfl rfl)
theorem dX3_split_310 : decode cX3_split 310 = .ok (.iconst 1, 1) := dk_4 (dk_at dksX3_split_13 8 rfl rfl)
theorem dX3_split_311 : decode cX3_split 311 = .ok (.istore 6, 2) := dk_54 6 (dk_at dksX3_split_13 9 rfl rfl)
theorem dX3_split_313 : decode cX3_split 313 = .ok (.iload 6, 2) := dk_21 6 (dk_at dksX3_split_13 11 rfl rfl)
theorem dX3_split_315 : decode cX3_split 315 = .ok (.bipush 10, 2) := dk_16 10 (dk_at dksX3_split_13 13 rfl rfl)
theorem dX3_split_317 : decode cX3_split 317 = .ok (.if_icmp .ge 33, 3) := dk_162 0 33 (dk_at dksX3_split_13 15 rfl rfl)
theorem dX3_split_320 : decode cX3_split 320 = .ok (.aload_n 0, 1) := dk_42 (dk_at dksX3_split_13 18 rfl rfl)
theorem dX3_split_321 : decode cX3_split 321 = .ok (.iconst 4, 1) := dk_7 (dk_at dksX3_split_13 19 rfl rfl)
theorem dX3_split_322 : decode cX3_split 322 = .ok (.iload 6, 2) := dk_21 6 (dk_at dksX3_split_13 20 rfl rfl)
theorem dX3_split_324 : decode cX3_split 324 = .ok (.iadd, 1) := dk_96 (dk_at dksX3_split_13 22 rfl rfl)
theorem dX3_split_325 : decode cX3_split 325 = .ok (.iconst 4, 1) := dk_7 (dk_at dksX3_split_13 23 rfl rfl)
theorem dX3_split_326 : decode cX3_split 326 = .ok (.iload 5, 2) := dk_21 5 (dk_at dksX3_split_14 0 rfl rfl)
theorem dX3_split_328 : decode cX3_split 328 = .ok (.iadd, 1) := dk_96 (dk_at dksX3_split_14 2 rfl rfl)
theorem dX3_split_329 : decode cX3_split 329 = .ok (.invokevirtual 383, 3) := dk_182 1 127 (dk_at dksX3_split_14 3 rfl rfl)
theorem dX3_split_332 : decode cX3_split 332 = .ok (.ifCond .le 8, 3) := dk_158 0 8 (dk_at dksX3_split_14 6 rfl rfl)
theorem dX3_split_335 : decode cX3_split 335 = .ok (.iload 6, 2) := dk_21 6 (dk_at dksX3_split_14 9 rfl rfl)
theorem dX3_split_337 : decode cX3_split 337 = .ok (.goto 5, 3) := dk_167 0 5 (dk_at dksX3_split_14 11 rfl rfl)
theorem dX3_split_340 : decode cX3_split 340 = .ok (.iload 5, 2) := dk_21 5 (dk_at dksX3_split_14 14 rfl rfl)
theorem dX3_split_342 : decode cX3_split 342 = .ok (.istore 5, 2) := dk_54 5 (dk_at dksX3_split_14 16 rfl rfl)
theorem dX3_split_344 : decode cX3_split 344 = .ok (.iinc 6 1, 3) := dk_132 6 1 (dk_at dksX3_split_14 18 rfl rfl)
theorem dX3_split_347 : decode cX3_split 347 = .ok (.goto (-34), 3) := dk_167 255 222 (dk_at dksX3_split_14 21 rfl rfl)
theorem dX3_split_350 : decode cX3_split 350 = .ok (.aload_n 0, 1) := dk_42 (dk_at dksX3_split_15 0 rfl rfl)
theorem dX3_split_351 : decode cX3_split 351 = .ok (.getfield 76, 3) := dk_180 0 76 (dk_at dksX3_split_15 1 rfl rfl)
theorem dX3_split_354 : decode cX3_split 354 = .ok (.iload 5, 2) := dk_21 5 (dk_at dksX3_split_15 4 rfl rfl)
theorem dX3_split_356 : decode cX3_split 356 = .ok (.dup2, 1) := dk_92 (dk_at dksX3_split_15 6 rfl rfl)
theorem dX3_split_357 : decode cX3_split 357 = .ok (.iaload, 1) := dk_46 (dk_at dksX3_split_15 7 rfl rfl)
theorem dX3_split_358 : decode cX3_split 358 = .ok (.iconst 1, 1) := dk_4 (dk_at dksX3_split_15 8 rfl rfl)
theorem dX3_split_359 : decode cX3_split 359 = .ok (.iadd, 1) := dk_96 (dk_at dksX3_split_15 9 rfl rfl)
theorem dX3_split_360 : decode cX3_split 360 = .ok (.iastore, 1) := dk_79 (dk_at dksX3_split_15 10 rfl rfl)
theorem dX3_split_361 : decode cX3_split 361 = .ok (.aload_n 0, 1) := dk_42 (dk_at dksX3_split_15 11 rfl rfl)
theorem dX3_split_362 : decode cX3_split 362 = .ok (.iconst 4, 1) := dk_7 (dk_at dksX3_split_15 12 rfl rfl)
theorem dX3_split_363 : decode cX3_split 363 = .ok (.iload 5, 2) := dk_21 5 (dk_at dksX3_split_15 13 rfl rfl)
theorem dX3_split_365 : decode cX3_split 365 = .ok (.iadd, 1) := dk_96 (dk_at dksX3_split_15 15 rfl rfl)
theorem dX3_split_366 : decode cX3_split 366 = .ok (.invokevirtual 109, 3) := dk_182 0 109 (dk_at dksX3_split_15 16 rfl rfl)
theorem dX3_split_369 : decode cX3_split 369 = .ok (.iinc 4 (-1), 3) := dk_132 4 255 (dk_at dksX3_split_15 19 rfl rfl)
theorem dX3_split_372 : decode cX3_split 372 = .ok (.goto (-70), 3) := dk_167 255 186 (dk_at dksX3_split_16 0 rfl rfl)
theorem dX3_split_375 : decode cX3_split 375 = .ok (.iconst 0, 1) := dk_3 (dk_at dksX3_split_16 3 rfl rfl)
theorem dX3_split_376 : decode cX3_split 376 = .ok (.istore 5, 2) := dk_54 5 (dk_at dksX3_split_16 4 rfl rfl)
theorem dX3_split_378 : decode cX3_split 378 = .ok (.iconst 0, 1) := dk_3 (dk_at dksX3_split_16 6 rfl rfl)
theorem dX3_split_379 : decode cX3_split 379 = .ok (.istore 6, 2) := dk_54 6 (dk_at dksX3_split_16 7 rfl rfl)
theorem dX3_split_381 : decode cX3_split 381 = .ok (.iload 6, 2) := dk_21 6 (dk_at dksX3_split_16 9 rfl rfl)
theorem dX3_split_383 : decode cX3_split 383 = .ok (.bipush 10, 2) := dk_16 10 (dk_at dksX3_split_16 11 rfl rfl)
theorem dX3_split_385 : decode cX3_split 385 = .ok (.if_icmp .ge 29, 3) := dk_162 0 29 (dk_at dksX3_split_16 13 rfl rfl)
theorem dX3_split_388 : decode cX3_split 388 = .ok (.iload 5, 2) := dk_21 5 (dk_at dksX3_split_16 16 rfl rfl)
theorem dX3_split_390 : decode cX3_split 390 = .ok (.aload_n 0, 1) := dk_42 (dk_at dksX3_split_16 18 rfl rfl)
theorem dX3_split_391 : decode cX3_split 391 = .ok (.getfield 76, 3) := dk_180 0 76 (dk_at dksX3_split_16 19 rfl rfl)
theorem dX3_split_394 : decode cX3_split 394 = .ok (.iload 6, 2) := dk_21 6 (dk_at dksX3_split_16 22 rfl rfl)
theorem dX3_split_396 : decode cX3_split 396 = .ok (.iaload, 1) := dk_46 (dk_at dksX3_split_17 0 rfl rfl)
theorem dX3_split_397 : decode cX3_split 397 = .ok (.ifCond .le 7, 3) := dk_158 0 7 (dk_at dksX3_split_17 1 rfl rfl)
theorem dX3_split_400 : decode cX3_split 400 = .ok (.iconst 1, 1) := dk_4 (dk_at dksX3_split_17 4 rfl rfl)
theorem dX3_split_401 : decode cX3_split 401 = .ok (.goto 4, 3) := dk_167 0 4 (dk_at dksX3_split_17 5 rfl rfl)
theorem dX3_split_404 : decode cX3_split 404 = .ok (.iconst 0, 1) := dk_3 (dk_at dksX3_split_17 8 rfl rfl)
theorem dX3_split_405 : decode cX3_split 405 = .ok (.iadd, 1) := dk_96 (dk_at dksX3_split_17 9 rfl rfl)
theorem dX3_split_406 : decode cX3_split 406 = .ok (.istore 5, 2) := dk_54 5 (dk_at dksX3_split_17 10 rfl rfl)
theorem dX3_split_408 : decode cX3_split 408 = .ok (.iinc 6 1, 3) := dk_132 6 1 (dk_at dksX3_split_17 12 rfl rfl)
theorem dX3_split_411 : decode cX3_split 411 = .ok (.goto (-30), 3) := dk_167 255 226 (dk_at dksX3_split_17 15 rfl rfl)
theorem dX3_split_414 : decode cX3_split 414 = .ok (.iload 5, 2) := dk_21 5 (dk_at dksX3_split_17 18 rfl rfl)
theorem dX3_split_416 : decode cX3_split 416 = .ok (.ireturn, 1) := dk_172 (dk_at dksX3_split_17 20 rfl rfl)
abbrev cX3_share : ByteArray := prog_27_method_94_code
def yX3_share : MethodName := ⟨RX3, "share", "(I)I"⟩
def dkwX3_share_1 : List UInt8 := [167, 0, 5, 16, 154, 172]
abbrev dktX3_share_1 : List UInt8 := dkwX3_share_1 ++ []
def dkwX3_share_0 : List UInt8 := [42, 3, 181, 0, 94, 27, 133, 9, 20, 0, 212, 184, 0, 99, 153, 0, 12, 42, 180, 0, 76, 27, 46]
abbrev dktX3_share_0 : List UInt8 := dkwX3_share_0 ++ dktX3_share_1
theorem dksX3_share_0 : cX3_share.data.toList.drop 0 = dktX3_share_0 := by decide +kernel
theorem dksX3_share_1 : cX3_share.data.toList.drop 23 = dktX3_share_1 := dk_seg dksX3_share_0 23 rfl rfl
theorem dX3_share_0 : decode cX3_share 0 = .ok (.aload_n 0, 1) := dk_42 (dk_at dksX3_share_0 0 rfl rfl)
theorem dX3_share_1 : decode cX3_share 1 = .ok (.iconst 0, 1) := dk_3 (dk_at dksX3_share_0 1 rfl rfl)
theorem dX3_share_2 : decode cX3_share 2 = .ok (.putfield 94, 3) := dk_181 0 94 (dk_at dksX3_share_0 2 rfl rfl)
theorem dX3_share_5 : decode cX3_share 5 = .ok (.iload_n 1, 1) := dk_27 (dk_at dksX3_share_0 5 rfl rfl)
theorem dX3_share_6 : decode cX3_share 6 = .ok (.i2l, 1) := dk_133 (dk_at dksX3_share_0 6 rfl rfl)
theorem dX3_share_7 : decode cX3_share 7 = .ok (.lconst 0, 1) := dk_9 (dk_at dksX3_share_0 7 rfl rfl)
theorem dX3_share_8 : decode cX3_share 8 = .ok (.ldc2_w 212, 3) := dk_20 0 212 (dk_at dksX3_share_0 8 rfl rfl)
theorem dX3_share_11 : decode cX3_share 11 = .ok (.invokestatic 99, 3) := dk_184 0 99 (dk_at dksX3_share_0 11 rfl rfl)
theorem dX3_share_14 : decode cX3_share 14 = .ok (.ifCond .eq 12, 3) := dk_153 0 12 (dk_at dksX3_share_0 14 rfl rfl)
theorem dX3_share_17 : decode cX3_share 17 = .ok (.aload_n 0, 1) := dk_42 (dk_at dksX3_share_0 17 rfl rfl)
theorem dX3_share_18 : decode cX3_share 18 = .ok (.getfield 76, 3) := dk_180 0 76 (dk_at dksX3_share_0 18 rfl rfl)
theorem dX3_share_21 : decode cX3_share 21 = .ok (.iload_n 1, 1) := dk_27 (dk_at dksX3_share_0 21 rfl rfl)
theorem dX3_share_22 : decode cX3_share 22 = .ok (.iaload, 1) := dk_46 (dk_at dksX3_share_0 22 rfl rfl)
theorem dX3_share_23 : decode cX3_share 23 = .ok (.goto 5, 3) := dk_167 0 5 (dk_at dksX3_share_1 0 rfl rfl)
theorem dX3_share_26 : decode cX3_share 26 = .ok (.bipush (-102), 2) := dk_16 154 (dk_at dksX3_share_1 3 rfl rfl)
theorem dX3_share_28 : decode cX3_share 28 = .ok (.ireturn, 1) := dk_172 (dk_at dksX3_share_1 5 rfl rfl)
abbrev cX3_sign : ByteArray := prog_27_method_95_code
def yX3_sign : MethodName := ⟨RX3, "sign", "(III)I"⟩
def dkwX3_sign_6 : List UInt8 := [182, 0, 136, 172]
abbrev dktX3_sign_6 : List UInt8 := dkwX3_sign_6 ++ []
def dkwX3_sign_5 : List UInt8 := [180, 0, 17, 16, 60, 27, 104, 21, 4, 96, 49, 182, 0, 158, 132, 4, 1, 167, 255, 190, 42, 3]
abbrev dktX3_sign_5 : List UInt8 := dkwX3_sign_5 ++ dktX3_sign_6
def dkwX3_sign_4 : List UInt8 := [167, 0, 15, 42, 180, 0, 24, 16, 60, 27, 104, 21, 4, 96, 46, 29, 160, 0, 20, 42, 3, 42]
abbrev dktX3_sign_4 : List UInt8 := dkwX3_sign_4 ++ dktX3_sign_5
def dkwX3_sign_3 : List UInt8 := [180, 0, 7, 27, 46, 162, 0, 61, 28, 154, 0, 18, 42, 180, 0, 21, 16, 60, 27, 104, 21, 4, 96, 46]
abbrev dktX3_sign_3 : List UInt8 := dkwX3_sign_3 ++ dktX3_sign_4
def dkwX3_sign_2 : List UInt8 := [181, 0, 94, 42, 180, 0, 94, 153, 0, 5, 3, 172, 42, 3, 182, 0, 109, 3, 54, 4, 21, 4, 42]
abbrev dktX3_sign_2 : List UInt8 := dkwX3_sign_2 ++ dktX3_sign_3
def dkwX3_sign_1 : List UInt8 := [20, 0, 212, 167, 0, 6, 20, 0, 214, 184, 0, 99, 154, 0, 6, 16, 154, 172, 42, 42, 27, 182, 0, 103]
abbrev dktX3_sign_1 : List UInt8 := dkwX3_sign_1 ++ dktX3_sign_2
def dkwX3_sign_0 : List UInt8 := [42, 3, 181, 0, 94, 28, 133, 9, 10, 184, 0, 99, 153, 0, 25, 29, 133, 9, 28, 154, 0, 9]
abbrev dktX3_sign_0 : List UInt8 := dkwX3_sign_0 ++ dktX3_sign_1
theorem dksX3_sign_0 : cX3_sign.data.toList.drop 0 = dktX3_sign_0 := by decide +kernel
theorem dksX3_sign_1 : cX3_sign.data.toList.drop 22 = dktX3_sign_1 := dk_seg dksX3_sign_0 22 rfl rfl
theorem dksX3_sign_2 : cX3_sign.data.toList.drop 46 = dktX3_sign_2 := dk_seg dksX3_sign_1 24 rfl rfl
theorem dksX3_sign_3 : cX3_sign.data.toList.drop 69 = dktX3_sign_3 := dk_seg dksX3_sign_2 23 rfl rfl
theorem dksX3_sign_4 : cX3_sign.data.toList.drop 93 = dktX3_sign_4 := dk_seg dksX3_sign_3 24 rfl rfl
theorem dksX3_sign_5 : cX3_sign.data.toList.drop 115 = dktX3_sign_5 := dk_seg dksX3_sign_4 22 rfl rfl
theorem dksX3_sign_6 : cX3_sign.data.toList.drop 137 = dktX3_sign_6 := dk_seg dksX3_sign_5 22 rfl rfl
theorem dX3_sign_0 : decode cX3_sign 0 = .ok (.aload_n 0, 1) := dk_42 (dk_at dksX3_sign_0 0 rfl rfl)
theorem dX3_sign_1 : decode cX3_sign 1 = .ok (.iconst 0, 1) := dk_3 (dk_at dksX3_sign_0 1 rfl rfl)
theorem dX3_sign_2 : decode cX3_sign 2 = .ok (.putfield 94, 3) := dk_181 0 94 (dk_at dksX3_sign_0 2 rfl rfl)
theorem dX3_sign_5 : decode cX3_sign 5 = .ok (.iload_n 2, 1) := dk_28 (dk_at dksX3_sign_0 5 rfl rfl)
theorem dX3_sign_6 : decode cX3_sign 6 = .ok (.i2l, 1) := dk_133 (dk_at dksX3_sign_0 6 rfl rfl)
theorem dX3_sign_7 : decode cX3_sign 7 = .ok (.lconst 0, 1) := dk_9 (dk_at dksX3_sign_0 7 rfl rfl)
theorem dX3_sign_8 : decode cX3_sign 8 = .ok (.lconst 1, 1) := dk_10 (dk_at dksX3_sign_0 8 rfl rfl)
theorem dX3_sign_9 : decode cX3_sign 9 = .ok (.invokestatic 99, 3) := dk_184 0 99 (dk_at dksX3_sign_0 9 rfl rfl)
theorem dX3_sign_12 : decode cX3_sign 12 = .ok (.ifCond .eq 25, 3) := dk_153 0 25 (dk_at dksX3_sign_0 12 rfl rfl)
theorem dX3_sign_15 : decode cX3_sign 15 = .ok (.iload_n 3, 1) := dk_29 (dk_at dksX3_sign_0 15 rfl rfl)
theorem dX3_sign_16 : decode cX3_sign 16 = .ok (.i2l, 1) := dk_133 (dk_at dksX3_sign_0 16 rfl rfl)
theorem dX3_sign_17 : decode cX3_sign 17 = .ok (.lconst 0, 1) := dk_9 (dk_at dksX3_sign_0 17 rfl rfl)
theorem dX3_sign_18 : decode cX3_sign 18 = .ok (.iload_n 2, 1) := dk_28 (dk_at dksX3_sign_0 18 rfl rfl)
theorem dX3_sign_19 : decode cX3_sign 19 = .ok (.ifCond .ne 9, 3) := dk_154 0 9 (dk_at dksX3_sign_0 19 rfl rfl)
theorem dX3_sign_22 : decode cX3_sign 22 = .ok (.ldc2_w 212, 3) := dk_20 0 212 (dk_at dksX3_sign_1 0 rfl rfl)
theorem dX3_sign_25 : decode cX3_sign 25 = .ok (.goto 6, 3) := dk_167 0 6 (dk_at dksX3_sign_1 3 rfl rfl)
theorem dX3_sign_28 : decode cX3_sign 28 = .ok (.ldc2_w 214, 3) := dk_20 0 214 (dk_at dksX3_sign_1 6 rfl rfl)
theorem dX3_sign_31 : decode cX3_sign 31 = .ok (.invokestatic 99, 3) := dk_184 0 99 (dk_at dksX3_sign_1 9 rfl rfl)
theorem dX3_sign_34 : decode cX3_sign 34 = .ok (.ifCond .ne 6, 3) := dk_154 0 6 (dk_at dksX3_sign_1 12 rfl rfl)
theorem dX3_sign_37 : decode cX3_sign 37 = .ok (.bipush (-102), 2) := dk_16 154 (dk_at dksX3_sign_1 15 rfl rfl)
theorem dX3_sign_39 : decode cX3_sign 39 = .ok (.ireturn, 1) := dk_172 (dk_at dksX3_sign_1 17 rfl rfl)
theorem dX3_sign_40 : decode cX3_sign 40 = .ok (.aload_n 0, 1) := dk_42 (dk_at dksX3_sign_1 18 rfl rfl)
theorem dX3_sign_41 : decode cX3_sign 41 = .ok (.aload_n 0, 1) := dk_42 (dk_at dksX3_sign_1 19 rfl rfl)
theorem dX3_sign_42 : decode cX3_sign 42 = .ok (.iload_n 1, 1) := dk_27 (dk_at dksX3_sign_1 20 rfl rfl)
theorem dX3_sign_43 : decode cX3_sign 43 = .ok (.invokevirtual 103, 3) := dk_182 0 103 (dk_at dksX3_sign_1 21 rfl rfl)
theorem dX3_sign_46 : decode cX3_sign 46 = .ok (.putfield 94, 3) := dk_181 0 94 (dk_at dksX3_sign_2 0 rfl rfl)
theorem dX3_sign_49 : decode cX3_sign 49 = .ok (.aload_n 0, 1) := dk_42 (dk_at dksX3_sign_2 3 rfl rfl)
theorem dX3_sign_50 : decode cX3_sign 50 = .ok (.getfield 94, 3) := dk_180 0 94 (dk_at dksX3_sign_2 4 rfl rfl)
theorem dX3_sign_53 : decode cX3_sign 53 = .ok (.ifCond .eq 5, 3) := dk_153 0 5 (dk_at dksX3_sign_2 7 rfl rfl)
theorem dX3_sign_56 : decode cX3_sign 56 = .ok (.iconst 0, 1) := dk_3 (dk_at dksX3_sign_2 10 rfl rfl)
theorem dX3_sign_57 : decode cX3_sign 57 = .ok (.ireturn, 1) := dk_172 (dk_at dksX3_sign_2 11 rfl rfl)
theorem dX3_sign_58 : decode cX3_sign 58 = .ok (.aload_n 0, 1) := dk_42 (dk_at dksX3_sign_2 12 rfl rfl)
theorem dX3_sign_59 : decode cX3_sign 59 = .ok (.iconst 0, 1) := dk_3 (dk_at dksX3_sign_2 13 rfl rfl)
theorem dX3_sign_60 : decode cX3_sign 60 = .ok (.invokevirtual 109, 3) := dk_182 0 109 (dk_at dksX3_sign_2 14 rfl rfl)
theorem dX3_sign_63 : decode cX3_sign 63 = .ok (.iconst 0, 1) := dk_3 (dk_at dksX3_sign_2 17 rfl rfl)
theorem dX3_sign_64 : decode cX3_sign 64 = .ok (.istore 4, 2) := dk_54 4 (dk_at dksX3_sign_2 18 rfl rfl)
theorem dX3_sign_66 : decode cX3_sign 66 = .ok (.iload 4, 2) := dk_21 4 (dk_at dksX3_sign_2 20 rfl rfl)
theorem dX3_sign_68 : decode cX3_sign 68 = .ok (.aload_n 0, 1) := dk_42 (dk_at dksX3_sign_2 22 rfl rfl)
theorem dX3_sign_69 : decode cX3_sign 69 = .ok (.getfield 7, 3) := dk_180 0 7 (dk_at dksX3_sign_3 0 rfl rfl)
theorem dX3_sign_72 : decode cX3_sign 72 = .ok (.iload_n 1, 1) := dk_27 (dk_at dksX3_sign_3 3 rfl rfl)
theorem dX3_sign_73 : decode cX3_sign 73 = .ok (.iaload, 1) := dk_46 (dk_at dksX3_sign_3 4 rfl rfl)
theorem dX3_sign_74 : decode cX3_sign 74 = .ok (.if_icmp .ge 61, 3) := dk_162 0 61 (dk_at dksX3_sign_3 5 rfl rfl)
theorem dX3_sign_77 : decode cX3_sign 77 = .ok (.iload_n 2, 1) := dk_28 (dk_at dksX3_sign_3 8 rfl rfl)
theorem dX3_sign_78 : decode cX3_sign 78 = .ok (.ifCond .ne 18, 3) := dk_154 0 18 (dk_at dksX3_sign_3 9 rfl rfl)
theorem dX3_sign_81 : decode cX3_sign 81 = .ok (.aload_n 0, 1) := dk_42 (dk_at dksX3_sign_3 12 rfl rfl)
theorem dX3_sign_82 : decode cX3_sign 82 = .ok (.getfield 21, 3) := dk_180 0 21 (dk_at dksX3_sign_3 13 rfl rfl)
theorem dX3_sign_85 : decode cX3_sign 85 = .ok (.bipush 60, 2) := dk_16 60 (dk_at dksX3_sign_3 16 rfl rfl)
theorem dX3_sign_87 : decode cX3_sign 87 = .ok (.iload_n 1, 1) := dk_27 (dk_at dksX3_sign_3 18 rfl rfl)
theorem dX3_sign_88 : decode cX3_sign 88 = .ok (.imul, 1) := dk_104 (dk_at dksX3_sign_3 19 rfl rfl)
theorem dX3_sign_89 : decode cX3_sign 89 = .ok (.iload 4, 2) := dk_21 4 (dk_at dksX3_sign_3 20 rfl rfl)
theorem dX3_sign_91 : decode cX3_sign 91 = .ok (.iadd, 1) := dk_96 (dk_at dksX3_sign_3 22 rfl rfl)
theorem dX3_sign_92 : decode cX3_sign 92 = .ok (.iaload, 1) := dk_46 (dk_at dksX3_sign_3 23 rfl rfl)
theorem dX3_sign_93 : decode cX3_sign 93 = .ok (.goto 15, 3) := dk_167 0 15 (dk_at dksX3_sign_4 0 rfl rfl)
theorem dX3_sign_96 : decode cX3_sign 96 = .ok (.aload_n 0, 1) := dk_42 (dk_at dksX3_sign_4 3 rfl rfl)
theorem dX3_sign_97 : decode cX3_sign 97 = .ok (.getfield 24, 3) := dk_180 0 24 (dk_at dksX3_sign_4 4 rfl rfl)
theorem dX3_sign_100 : decode cX3_sign 100 = .ok (.bipush 60, 2) := dk_16 60 (dk_at dksX3_sign_4 7 rfl rfl)
theorem dX3_sign_102 : decode cX3_sign 102 = .ok (.iload_n 1, 1) := dk_27 (dk_at dksX3_sign_4 9 rfl rfl)
theorem dX3_sign_103 : decode cX3_sign 103 = .ok (.imul, 1) := dk_104 (dk_at dksX3_sign_4 10 rfl rfl)
theorem dX3_sign_104 : decode cX3_sign 104 = .ok (.iload 4, 2) := dk_21 4 (dk_at dksX3_sign_4 11 rfl rfl)
theorem dX3_sign_106 : decode cX3_sign 106 = .ok (.iadd, 1) := dk_96 (dk_at dksX3_sign_4 13 rfl rfl)
theorem dX3_sign_107 : decode cX3_sign 107 = .ok (.iaload, 1) := dk_46 (dk_at dksX3_sign_4 14 rfl rfl)
theorem dX3_sign_108 : decode cX3_sign 108 = .ok (.iload_n 3, 1) := dk_29 (dk_at dksX3_sign_4 15 rfl rfl)
theorem dX3_sign_109 : decode cX3_sign 109 = .ok (.if_icmp .ne 20, 3) := dk_160 0 20 (dk_at dksX3_sign_4 16 rfl rfl)
theorem dX3_sign_112 : decode cX3_sign 112 = .ok (.aload_n 0, 1) := dk_42 (dk_at dksX3_sign_4 19 rfl rfl)
theorem dX3_sign_113 : decode cX3_sign 113 = .ok (.iconst 0, 1) := dk_3 (dk_at dksX3_sign_4 20 rfl rfl)
theorem dX3_sign_114 : decode cX3_sign 114 = .ok (.aload_n 0, 1) := dk_42 (dk_at dksX3_sign_4 21 rfl rfl)
theorem dX3_sign_115 : decode cX3_sign 115 = .ok (.getfield 17, 3) := dk_180 0 17 (dk_at dksX3_sign_5 0 rfl rfl)
theorem dX3_sign_118 : decode cX3_sign 118 = .ok (.bipush 60, 2) := dk_16 60 (dk_at dksX3_sign_5 3 rfl rfl)
theorem dX3_sign_120 : decode cX3_sign 120 = .ok (.iload_n 1, 1) := dk_27 (dk_at dksX3_sign_5 5 rfl rfl)
theorem dX3_sign_121 : decode cX3_sign 121 = .ok (.imul, 1) := dk_104 (dk_at dksX3_sign_5 6 rfl rfl)
theorem dX3_sign_122 : decode cX3_sign 122 = .ok (.iload 4, 2) := dk_21 4 (dk_at dksX3_sign_5 7 rfl rfl)
theorem dX3_sign_124 : decode cX3_sign 124 = .ok (.iadd, 1) := dk_96 (dk_at dksX3_sign_5 9 rfl rfl)
theorem dX3_sign_125 : decode cX3_sign 125 = .ok (.daload, 1) := dk_49 (dk_at dksX3_sign_5 10 rfl rfl)
theorem dX3_sign_126 : decode cX3_sign 126 = .ok (.invokevirtual 158, 3) := dk_182 0 158 (dk_at dksX3_sign_5 11 rfl rfl)
theorem dX3_sign_129 : decode cX3_sign 129 = .ok (.iinc 4 1, 3) := dk_132 4 1 (dk_at dksX3_sign_5 14 rfl rfl)
theorem dX3_sign_132 : decode cX3_sign 132 = .ok (.goto (-66), 3) := dk_167 255 190 (dk_at dksX3_sign_5 17 rfl rfl)
theorem dX3_sign_135 : decode cX3_sign 135 = .ok (.aload_n 0, 1) := dk_42 (dk_at dksX3_sign_5 20 rfl rfl)
theorem dX3_sign_136 : decode cX3_sign 136 = .ok (.iconst 0, 1) := dk_3 (dk_at dksX3_sign_5 21 rfl rfl)
theorem dX3_sign_137 : decode cX3_sign 137 = .ok (.invokevirtual 136, 3) := dk_182 0 136 (dk_at dksX3_sign_6 0 rfl rfl)
theorem dX3_sign_140 : decode cX3_sign 140 = .ok (.ireturn, 1) := dk_172 (dk_at dksX3_sign_6 3 rfl rfl)
theorem q70 : (Jvm.Cond.initialized "RoundingAuditorModel") ∈ lw_all := lw_g (lw_at lw_m1 6 rfl) rfl
theorem q1349 : (Jvm.Cond.selects "RoundingAuditorModel" ({ cls := "java/lang/Object", name := "getClass", desc := "()Ljava/lang/Class;" } : Jvm.MethodName) ({ cls := "java/lang/Object", name := "getClass", desc := "()Ljava/lang/Class;" } : Jvm.MethodName)) ∈ lw_all := lw_g (lw_at lw_m6 85 rfl) rfl
theorem q1527 : (Jvm.Cond.instantiable "RoundingAuditorModel" (36 : Nat)) ∈ lw_all := lw_g (lw_at lw_m7 23 rfl) rfl
theorem q1529 : (Jvm.Cond.instanceMethod ({ cls := "RoundingAuditorModel", name := "<init>", desc := "()V" } : Jvm.MethodName)) ∈ lw_all := lw_g (lw_at lw_m7 25 rfl) rfl
theorem q1530 : (Jvm.Cond.code ({ cls := "RoundingAuditorModel", name := "<init>", desc := "()V" } : Jvm.MethodName) prog_27_method_1_code (1 : Nat) (Option.none : Option Jvm.ClassFile.FieldType)) ∈ lw_all := lw_g (lw_at lw_m7 26 rfl) rfl
theorem q1531 : (Jvm.Cond.methodLink "RoundingAuditorModel" (1 : Nat) ({ cls := "java/lang/Object", name := "<init>", desc := "()V" } : Jvm.MethodName)) ∈ lw_all := lw_g (lw_at lw_m7 27 rfl) rfl
theorem q1532 : (Jvm.Cond.fieldLink "RoundingAuditorModel" (94 : Nat) "RoundingAuditorModel" "thrown" "I") ∈ lw_all := lw_g (lw_at lw_m7 28 rfl) rfl
theorem q1533 : (Jvm.Cond.fieldLink "RoundingAuditorModel" (7 : Nat) "RoundingAuditorModel" "many" "[I") ∈ lw_all := lw_g (lw_at lw_m7 29 rfl) rfl
theorem q1534 : (Jvm.Cond.fieldLink "RoundingAuditorModel" (13 : Nat) "RoundingAuditorModel" "isWide" "[Z") ∈ lw_all := lw_g (lw_at lw_m7 30 rfl) rfl
theorem q1535 : (Jvm.Cond.fieldLink "RoundingAuditorModel" (17 : Nat) "RoundingAuditorModel" "amountOf" "[D") ∈ lw_all := lw_g (lw_at lw_m7 31 rfl) rfl
theorem q1536 : (Jvm.Cond.fieldLink "RoundingAuditorModel" (21 : Nat) "RoundingAuditorModel" "accountOf" "[I") ∈ lw_all := lw_g (lw_at lw_m7 32 rfl) rfl
theorem q1537 : (Jvm.Cond.fieldLink "RoundingAuditorModel" (24 : Nat) "RoundingAuditorModel" "dayOf" "[I") ∈ lw_all := lw_g (lw_at lw_m7 33 rfl) rfl
theorem q1538 : (Jvm.Cond.fieldLink "RoundingAuditorModel" (27 : Nat) "RoundingAuditorModel" "given" "[I") ∈ lw_all := lw_g (lw_at lw_m7 34 rfl) rfl
theorem q1539 : (Jvm.Cond.fieldLink "RoundingAuditorModel" (30 : Nat) "RoundingAuditorModel" "givenOf" "[I") ∈ lw_all := lw_g (lw_at lw_m7 35 rfl) rfl
theorem q1540 : (Jvm.Cond.fieldLink "RoundingAuditorModel" (356 : Nat) "RoundingAuditorModel" "runs" "I") ∈ lw_all := lw_g (lw_at lw_m7 36 rfl) rfl
theorem q1541 : (Jvm.Cond.fieldLink "RoundingAuditorModel" (33 : Nat) "RoundingAuditorModel" "runWide" "[Z") ∈ lw_all := lw_g (lw_at lw_m7 37 rfl) rfl
theorem q1542 : (Jvm.Cond.fieldLink "RoundingAuditorModel" (36 : Nat) "RoundingAuditorModel" "runWay" "[I") ∈ lw_all := lw_g (lw_at lw_m7 38 rfl) rfl
theorem q1543 : (Jvm.Cond.fieldLink "RoundingAuditorModel" (39 : Nat) "RoundingAuditorModel" "runTotal" "[D") ∈ lw_all := lw_g (lw_at lw_m7 39 rfl) rfl
theorem q1544 : (Jvm.Cond.fieldLink "RoundingAuditorModel" (42 : Nat) "RoundingAuditorModel" "runSteps" "[I") ∈ lw_all := lw_g (lw_at lw_m7 40 rfl) rfl
theorem q1545 : (Jvm.Cond.fieldLink "RoundingAuditorModel" (45 : Nat) "RoundingAuditorModel" "left" "[D") ∈ lw_all := lw_g (lw_at lw_m7 41 rfl) rfl
theorem q1546 : (Jvm.Cond.fieldLink "RoundingAuditorModel" (48 : Nat) "RoundingAuditorModel" "right" "[D") ∈ lw_all := lw_g (lw_at lw_m7 42 rfl) rfl
theorem q1547 : (Jvm.Cond.fieldLink "RoundingAuditorModel" (51 : Nat) "RoundingAuditorModel" "result" "[D") ∈ lw_all := lw_g (lw_at lw_m7 43 rfl) rfl
theorem q1548 : (Jvm.Cond.fieldLink "RoundingAuditorModel" (167 : Nat) "RoundingAuditorModel" "wide" "Z") ∈ lw_all := lw_g (lw_at lw_m7 44 rfl) rfl
theorem q1549 : (Jvm.Cond.fieldLink "RoundingAuditorModel" (297 : Nat) "RoundingAuditorModel" "done" "I") ∈ lw_all := lw_g (lw_at lw_m7 45 rfl) rfl
theorem q1550 : (Jvm.Cond.fieldLink "RoundingAuditorModel" (294 : Nat) "RoundingAuditorModel" "stepsAt" "I") ∈ lw_all := lw_g (lw_at lw_m7 46 rfl) rfl
theorem q1551 : (Jvm.Cond.fieldLink "RoundingAuditorModel" (291 : Nat) "RoundingAuditorModel" "keeps" "Z") ∈ lw_all := lw_g (lw_at lw_m7 47 rfl) rfl
theorem q1552 : (Jvm.Cond.fieldLink "RoundingAuditorModel" (54 : Nat) "RoundingAuditorModel" "order" "[I") ∈ lw_all := lw_g (lw_at lw_m7 48 rfl) rfl
theorem q1553 : (Jvm.Cond.fieldLink "RoundingAuditorModel" (57 : Nat) "RoundingAuditorModel" "at" "[D") ∈ lw_all := lw_g (lw_at lw_m7 49 rfl) rfl
theorem q1554 : (Jvm.Cond.fieldLink "RoundingAuditorModel" (60 : Nat) "RoundingAuditorModel" "spareAmount" "[D") ∈ lw_all := lw_g (lw_at lw_m7 50 rfl) rfl
theorem q1555 : (Jvm.Cond.fieldLink "RoundingAuditorModel" (63 : Nat) "RoundingAuditorModel" "spareAccount" "[I") ∈ lw_all := lw_g (lw_at lw_m7 51 rfl) rfl
theorem q1556 : (Jvm.Cond.fieldLink "RoundingAuditorModel" (66 : Nat) "RoundingAuditorModel" "spareDay" "[I") ∈ lw_all := lw_g (lw_at lw_m7 52 rfl) rfl
theorem q1557 : (Jvm.Cond.fieldLink "RoundingAuditorModel" (69 : Nat) "RoundingAuditorModel" "cured" "I") ∈ lw_all := lw_g (lw_at lw_m7 53 rfl) rfl
theorem q1558 : (Jvm.Cond.fieldLink "RoundingAuditorModel" (73 : Nat) "RoundingAuditorModel" "cureOf" "[I") ∈ lw_all := lw_g (lw_at lw_m7 54 rfl) rfl
theorem q1559 : (Jvm.Cond.fieldLink "RoundingAuditorModel" (76 : Nat) "RoundingAuditorModel" "shareOf" "[I") ∈ lw_all := lw_g (lw_at lw_m7 55 rfl) rfl
theorem q1560 : (Jvm.Cond.fieldLink "RoundingAuditorModel" (79 : Nat) "RoundingAuditorModel" "big" "[I") ∈ lw_all := lw_g (lw_at lw_m7 56 rfl) rfl
theorem q1561 : (Jvm.Cond.fieldLink "RoundingAuditorModel" (181 : Nat) "RoundingAuditorModel" "unitsOf" "J") ∈ lw_all := lw_g (lw_at lw_m7 57 rfl) rfl
theorem q1562 : (Jvm.Cond.fieldLink "RoundingAuditorModel" (241 : Nat) "RoundingAuditorModel" "spare" "I") ∈ lw_all := lw_g (lw_at lw_m7 58 rfl) rfl
theorem q1563 : (Jvm.Cond.fieldLink "RoundingAuditorModel" (82 : Nat) "RoundingAuditorModel" "halfFrom" "[I") ∈ lw_all := lw_g (lw_at lw_m7 59 rfl) rfl
theorem q1564 : (Jvm.Cond.fieldLink "RoundingAuditorModel" (85 : Nat) "RoundingAuditorModel" "halfMany" "[I") ∈ lw_all := lw_g (lw_at lw_m7 60 rfl) rfl
theorem q1565 : (Jvm.Cond.fieldLink "RoundingAuditorModel" (88 : Nat) "RoundingAuditorModel" "halfDone" "[I") ∈ lw_all := lw_g (lw_at lw_m7 61 rfl) rfl
theorem q1566 : (Jvm.Cond.fieldLink "RoundingAuditorModel" (91 : Nat) "RoundingAuditorModel" "halfTotal" "[D") ∈ lw_all := lw_g (lw_at lw_m7 62 rfl) rfl
theorem q1567 : (Jvm.Cond.fieldLink "RoundingAuditorModel" (328 : Nat) "RoundingAuditorModel" "isFar" "Z") ∈ lw_all := lw_g (lw_at lw_m7 63 rfl) rfl
theorem q1568 : (Jvm.Cond.lays "RoundingAuditorModel" "RoundingAuditorModel" "thrown" "I") ∈ lw_all := lw_g (lw_at lw_m7 64 rfl) rfl
theorem q1569 : (Jvm.Cond.soleField "RoundingAuditorModel" "thrown") ∈ lw_all := lw_g (lw_at lw_m7 65 rfl) rfl
theorem q1570 : (Jvm.Cond.laysFinal "RoundingAuditorModel" "RoundingAuditorModel" "many" "[I") ∈ lw_all := lw_g (lw_at lw_m7 66 rfl) rfl
theorem q1571 : (Jvm.Cond.soleField "RoundingAuditorModel" "many") ∈ lw_all := lw_g (lw_at lw_m7 67 rfl) rfl
theorem q1572 : (Jvm.Cond.laysFinal "RoundingAuditorModel" "RoundingAuditorModel" "isWide" "[Z") ∈ lw_all := lw_g (lw_at lw_m7 68 rfl) rfl
theorem q1573 : (Jvm.Cond.soleField "RoundingAuditorModel" "isWide") ∈ lw_all := lw_g (lw_at lw_m7 69 rfl) rfl
theorem q1574 : (Jvm.Cond.laysFinal "RoundingAuditorModel" "RoundingAuditorModel" "amountOf" "[D") ∈ lw_all := lw_g (lw_at lw_m7 70 rfl) rfl
theorem q1575 : (Jvm.Cond.soleField "RoundingAuditorModel" "amountOf") ∈ lw_all := lw_g (lw_at lw_m7 71 rfl) rfl
theorem q1576 : (Jvm.Cond.laysFinal "RoundingAuditorModel" "RoundingAuditorModel" "accountOf" "[I") ∈ lw_all := lw_g (lw_at lw_m7 72 rfl) rfl
theorem q1577 : (Jvm.Cond.soleField "RoundingAuditorModel" "accountOf") ∈ lw_all := lw_g (lw_at lw_m7 73 rfl) rfl
theorem q1578 : (Jvm.Cond.laysFinal "RoundingAuditorModel" "RoundingAuditorModel" "dayOf" "[I") ∈ lw_all := lw_g (lw_at lw_m7 74 rfl) rfl
theorem q1579 : (Jvm.Cond.soleField "RoundingAuditorModel" "dayOf") ∈ lw_all := lw_g (lw_at lw_m7 75 rfl) rfl
theorem q1580 : (Jvm.Cond.laysFinal "RoundingAuditorModel" "RoundingAuditorModel" "given" "[I") ∈ lw_all := lw_g (lw_at lw_m7 76 rfl) rfl
theorem q1581 : (Jvm.Cond.soleField "RoundingAuditorModel" "given") ∈ lw_all := lw_g (lw_at lw_m7 77 rfl) rfl
theorem q1582 : (Jvm.Cond.laysFinal "RoundingAuditorModel" "RoundingAuditorModel" "givenOf" "[I") ∈ lw_all := lw_g (lw_at lw_m7 78 rfl) rfl
theorem q1583 : (Jvm.Cond.soleField "RoundingAuditorModel" "givenOf") ∈ lw_all := lw_g (lw_at lw_m7 79 rfl) rfl
theorem q1584 : (Jvm.Cond.lays "RoundingAuditorModel" "RoundingAuditorModel" "runs" "I") ∈ lw_all := lw_g (lw_at lw_m7 80 rfl) rfl
theorem q1585 : (Jvm.Cond.soleField "RoundingAuditorModel" "runs") ∈ lw_all := lw_g (lw_at lw_m7 81 rfl) rfl
theorem q1586 : (Jvm.Cond.laysFinal "RoundingAuditorModel" "RoundingAuditorModel" "runWide" "[Z") ∈ lw_all := lw_g (lw_at lw_m7 82 rfl) rfl
theorem q1587 : (Jvm.Cond.soleField "RoundingAuditorModel" "runWide") ∈ lw_all := lw_g (lw_at lw_m7 83 rfl) rfl
theorem q1588 : (Jvm.Cond.laysFinal "RoundingAuditorModel" "RoundingAuditorModel" "runWay" "[I") ∈ lw_all := lw_g (lw_at lw_m7 84 rfl) rfl
theorem q1589 : (Jvm.Cond.soleField "RoundingAuditorModel" "runWay") ∈ lw_all := lw_g (lw_at lw_m7 85 rfl) rfl
theorem q1590 : (Jvm.Cond.laysFinal "RoundingAuditorModel" "RoundingAuditorModel" "runTotal" "[D") ∈ lw_all := lw_g (lw_at lw_m7 86 rfl) rfl
theorem q1591 : (Jvm.Cond.soleField "RoundingAuditorModel" "runTotal") ∈ lw_all := lw_g (lw_at lw_m7 87 rfl) rfl
theorem q1592 : (Jvm.Cond.laysFinal "RoundingAuditorModel" "RoundingAuditorModel" "runSteps" "[I") ∈ lw_all := lw_g (lw_at lw_m7 88 rfl) rfl
theorem q1593 : (Jvm.Cond.soleField "RoundingAuditorModel" "runSteps") ∈ lw_all := lw_g (lw_at lw_m7 89 rfl) rfl
theorem q1594 : (Jvm.Cond.laysFinal "RoundingAuditorModel" "RoundingAuditorModel" "left" "[D") ∈ lw_all := lw_g (lw_at lw_m7 90 rfl) rfl
theorem q1595 : (Jvm.Cond.soleField "RoundingAuditorModel" "left") ∈ lw_all := lw_g (lw_at lw_m7 91 rfl) rfl
theorem q1596 : (Jvm.Cond.laysFinal "RoundingAuditorModel" "RoundingAuditorModel" "right" "[D") ∈ lw_all := lw_g (lw_at lw_m7 92 rfl) rfl
theorem q1597 : (Jvm.Cond.soleField "RoundingAuditorModel" "right") ∈ lw_all := lw_g (lw_at lw_m7 93 rfl) rfl
theorem q1598 : (Jvm.Cond.laysFinal "RoundingAuditorModel" "RoundingAuditorModel" "result" "[D") ∈ lw_all := lw_g (lw_at lw_m7 94 rfl) rfl
theorem q1599 : (Jvm.Cond.soleField "RoundingAuditorModel" "result") ∈ lw_all := lw_g (lw_at lw_m7 95 rfl) rfl
theorem q1600 : (Jvm.Cond.lays "RoundingAuditorModel" "RoundingAuditorModel" "wide" "Z") ∈ lw_all := lw_g (lw_at lw_m7 96 rfl) rfl
theorem q1601 : (Jvm.Cond.soleField "RoundingAuditorModel" "wide") ∈ lw_all := lw_g (lw_at lw_m7 97 rfl) rfl
theorem q1602 : (Jvm.Cond.lays "RoundingAuditorModel" "RoundingAuditorModel" "done" "I") ∈ lw_all := lw_g (lw_at lw_m7 98 rfl) rfl
theorem q1603 : (Jvm.Cond.soleField "RoundingAuditorModel" "done") ∈ lw_all := lw_g (lw_at lw_m7 99 rfl) rfl
theorem q1604 : (Jvm.Cond.lays "RoundingAuditorModel" "RoundingAuditorModel" "stepsAt" "I") ∈ lw_all := lw_g (lw_at lw_m7 100 rfl) rfl
theorem q1605 : (Jvm.Cond.soleField "RoundingAuditorModel" "stepsAt") ∈ lw_all := lw_g (lw_at lw_m7 101 rfl) rfl
theorem q1606 : (Jvm.Cond.lays "RoundingAuditorModel" "RoundingAuditorModel" "keeps" "Z") ∈ lw_all := lw_g (lw_at lw_m7 102 rfl) rfl
theorem q1607 : (Jvm.Cond.soleField "RoundingAuditorModel" "keeps") ∈ lw_all := lw_g (lw_at lw_m7 103 rfl) rfl
theorem q1608 : (Jvm.Cond.laysFinal "RoundingAuditorModel" "RoundingAuditorModel" "order" "[I") ∈ lw_all := lw_g (lw_at lw_m7 104 rfl) rfl
theorem q1609 : (Jvm.Cond.soleField "RoundingAuditorModel" "order") ∈ lw_all := lw_g (lw_at lw_m7 105 rfl) rfl
theorem q1610 : (Jvm.Cond.laysFinal "RoundingAuditorModel" "RoundingAuditorModel" "at" "[D") ∈ lw_all := lw_g (lw_at lw_m7 106 rfl) rfl
theorem q1611 : (Jvm.Cond.soleField "RoundingAuditorModel" "at") ∈ lw_all := lw_g (lw_at lw_m7 107 rfl) rfl
theorem q1612 : (Jvm.Cond.laysFinal "RoundingAuditorModel" "RoundingAuditorModel" "spareAmount" "[D") ∈ lw_all := lw_g (lw_at lw_m7 108 rfl) rfl
theorem q1613 : (Jvm.Cond.soleField "RoundingAuditorModel" "spareAmount") ∈ lw_all := lw_g (lw_at lw_m7 109 rfl) rfl
theorem q1614 : (Jvm.Cond.laysFinal "RoundingAuditorModel" "RoundingAuditorModel" "spareAccount" "[I") ∈ lw_all := lw_g (lw_at lw_m7 110 rfl) rfl
theorem q1615 : (Jvm.Cond.soleField "RoundingAuditorModel" "spareAccount") ∈ lw_all := lw_g (lw_at lw_m7 111 rfl) rfl
theorem q1616 : (Jvm.Cond.laysFinal "RoundingAuditorModel" "RoundingAuditorModel" "spareDay" "[I") ∈ lw_all := lw_g (lw_at lw_m7 112 rfl) rfl
theorem q1617 : (Jvm.Cond.soleField "RoundingAuditorModel" "spareDay") ∈ lw_all := lw_g (lw_at lw_m7 113 rfl) rfl
theorem q1618 : (Jvm.Cond.lays "RoundingAuditorModel" "RoundingAuditorModel" "cured" "I") ∈ lw_all := lw_g (lw_at lw_m7 114 rfl) rfl
theorem q1619 : (Jvm.Cond.soleField "RoundingAuditorModel" "cured") ∈ lw_all := lw_g (lw_at lw_m7 115 rfl) rfl
theorem q1620 : (Jvm.Cond.laysFinal "RoundingAuditorModel" "RoundingAuditorModel" "cureOf" "[I") ∈ lw_all := lw_g (lw_at lw_m7 116 rfl) rfl
theorem q1621 : (Jvm.Cond.soleField "RoundingAuditorModel" "cureOf") ∈ lw_all := lw_g (lw_at lw_m7 117 rfl) rfl
theorem q1622 : (Jvm.Cond.laysFinal "RoundingAuditorModel" "RoundingAuditorModel" "shareOf" "[I") ∈ lw_all := lw_g (lw_at lw_m7 118 rfl) rfl
theorem q1623 : (Jvm.Cond.soleField "RoundingAuditorModel" "shareOf") ∈ lw_all := lw_g (lw_at lw_m7 119 rfl) rfl
theorem q1624 : (Jvm.Cond.laysFinal "RoundingAuditorModel" "RoundingAuditorModel" "big" "[I") ∈ lw_all := lw_g (lw_at lw_m7 120 rfl) rfl
theorem q1625 : (Jvm.Cond.soleField "RoundingAuditorModel" "big") ∈ lw_all := lw_g (lw_at lw_m7 121 rfl) rfl
theorem q1626 : (Jvm.Cond.lays "RoundingAuditorModel" "RoundingAuditorModel" "unitsOf" "J") ∈ lw_all := lw_g (lw_at lw_m7 122 rfl) rfl
theorem q1627 : (Jvm.Cond.soleField "RoundingAuditorModel" "unitsOf") ∈ lw_all := lw_g (lw_at lw_m7 123 rfl) rfl
theorem q1628 : (Jvm.Cond.lays "RoundingAuditorModel" "RoundingAuditorModel" "spare" "I") ∈ lw_all := lw_g (lw_at lw_m7 124 rfl) rfl
theorem q1629 : (Jvm.Cond.soleField "RoundingAuditorModel" "spare") ∈ lw_all := lw_g (lw_at lw_m7 125 rfl) rfl
theorem q1630 : (Jvm.Cond.laysFinal "RoundingAuditorModel" "RoundingAuditorModel" "halfFrom" "[I") ∈ lw_all := lw_g (lw_at lw_m7 126 rfl) rfl
theorem q1631 : (Jvm.Cond.soleField "RoundingAuditorModel" "halfFrom") ∈ lw_all := lw_g (lw_at lw_m7 127 rfl) rfl
theorem q1632 : (Jvm.Cond.laysFinal "RoundingAuditorModel" "RoundingAuditorModel" "halfMany" "[I") ∈ lw_all := lw_g (lw_at lw_m7 128 rfl) rfl
theorem q1633 : (Jvm.Cond.soleField "RoundingAuditorModel" "halfMany") ∈ lw_all := lw_g (lw_at lw_m7 129 rfl) rfl
theorem q1634 : (Jvm.Cond.laysFinal "RoundingAuditorModel" "RoundingAuditorModel" "halfDone" "[I") ∈ lw_all := lw_g (lw_at lw_m7 130 rfl) rfl
theorem q1635 : (Jvm.Cond.soleField "RoundingAuditorModel" "halfDone") ∈ lw_all := lw_g (lw_at lw_m7 131 rfl) rfl
theorem q1636 : (Jvm.Cond.laysFinal "RoundingAuditorModel" "RoundingAuditorModel" "halfTotal" "[D") ∈ lw_all := lw_g (lw_at lw_m7 132 rfl) rfl
theorem q1637 : (Jvm.Cond.soleField "RoundingAuditorModel" "halfTotal") ∈ lw_all := lw_g (lw_at lw_m7 133 rfl) rfl
theorem q1638 : (Jvm.Cond.lays "RoundingAuditorModel" "RoundingAuditorModel" "isFar" "Z") ∈ lw_all := lw_g (lw_at lw_m7 134 rfl) rfl
theorem q1639 : (Jvm.Cond.soleField "RoundingAuditorModel" "isFar") ∈ lw_all := lw_g (lw_at lw_m7 135 rfl) rfl
theorem q1640 : (Jvm.Cond.superclass "RoundingAuditorModel" "java/lang/Object") ∈ lw_all := lw_g (lw_at lw_m7 136 rfl) rfl
theorem q1642 : (Jvm.Cond.instanceMethod ({ cls := "RoundingAuditorModel", name := "thrown", desc := "()I" } : Jvm.MethodName)) ∈ lw_all := lw_g (lw_at lw_m7 138 rfl) rfl
theorem q1643 : (Jvm.Cond.selects "RoundingAuditorModel" ({ cls := "RoundingAuditorModel", name := "thrown", desc := "()I" } : Jvm.MethodName) ({ cls := "RoundingAuditorModel", name := "thrown", desc := "()I" } : Jvm.MethodName)) ∈ lw_all := lw_g (lw_at lw_m7 139 rfl) rfl
theorem q1644 : (Jvm.Cond.code ({ cls := "RoundingAuditorModel", name := "thrown", desc := "()I" } : Jvm.MethodName) prog_27_method_2_code (1 : Nat) (Option.some Jvm.ClassFile.FieldType.int)) ∈ lw_all := lw_g (lw_at lw_m7 140 rfl) rfl
theorem q1646 : (Jvm.Cond.instanceMethod ({ cls := "RoundingAuditorModel", name := "ledger", desc := "(IZI)I" } : Jvm.MethodName)) ∈ lw_all := lw_g (lw_at lw_m7 142 rfl) rfl
theorem q1647 : (Jvm.Cond.selects "RoundingAuditorModel" ({ cls := "RoundingAuditorModel", name := "ledger", desc := "(IZI)I" } : Jvm.MethodName) ({ cls := "RoundingAuditorModel", name := "ledger", desc := "(IZI)I" } : Jvm.MethodName)) ∈ lw_all := lw_g (lw_at lw_m7 143 rfl) rfl
theorem q1648 : (Jvm.Cond.code ({ cls := "RoundingAuditorModel", name := "ledger", desc := "(IZI)I" } : Jvm.MethodName) prog_27_method_28_code (4 : Nat) (Option.some Jvm.ClassFile.FieldType.int)) ∈ lw_all := lw_g (lw_at lw_m7 144 rfl) rfl
theorem q1649 : (Jvm.Cond.constantLong "RoundingAuditorModel" (97 : Nat) (11 : Int64)) ∈ lw_all := lw_g (lw_at lw_m7 145 rfl) rfl
theorem q1650 : (Jvm.Cond.methodLink "RoundingAuditorModel" (99 : Nat) ({ cls := "RoundingAuditorModel", name := "in", desc := "(JJJ)Z" } : Jvm.MethodName)) ∈ lw_all := lw_g (lw_at lw_m7 146 rfl) rfl
theorem q1651 : (Jvm.Cond.static ({ cls := "RoundingAuditorModel", name := "in", desc := "(JJJ)Z" } : Jvm.MethodName)) ∈ lw_all := lw_g (lw_at lw_m7 147 rfl) rfl
theorem q1652 : (Jvm.Cond.code ({ cls := "RoundingAuditorModel", name := "in", desc := "(JJJ)Z" } : Jvm.MethodName) prog_27_method_3_code (6 : Nat) (Option.some Jvm.ClassFile.FieldType.boolean)) ∈ lw_all := lw_g (lw_at lw_m7 148 rfl) rfl
theorem q1653 : (Jvm.Cond.methodLink "RoundingAuditorModel" (193 : Nat) ({ cls := "RoundingAuditorModel", name := "raise", desc := "(I)I" } : Jvm.MethodName)) ∈ lw_all := lw_g (lw_at lw_m7 149 rfl) rfl
theorem q1654 : (Jvm.Cond.privateMethod ({ cls := "RoundingAuditorModel", name := "raise", desc := "(I)I" } : Jvm.MethodName)) ∈ lw_tbl := lw_at lw_m7 150 rfl
theorem q1655 : (Jvm.Cond.instanceMethod ({ cls := "RoundingAuditorModel", name := "raise", desc := "(I)I" } : Jvm.MethodName)) ∈ lw_all := lw_g (lw_at lw_m7 151 rfl) rfl
theorem q1656 : (Jvm.Cond.code ({ cls := "RoundingAuditorModel", name := "raise", desc := "(I)I" } : Jvm.MethodName) prog_27_method_4_code (2 : Nat) (Option.some Jvm.ClassFile.FieldType.int)) ∈ lw_all := lw_g (lw_at lw_m7 152 rfl) rfl
theorem q1657 : (Jvm.Cond.methodLink "RoundingAuditorModel" (196 : Nat) ({ cls := "RoundingAuditorModel", name := "fresh", desc := "(IZI)V" } : Jvm.MethodName)) ∈ lw_all := lw_g (lw_at lw_m7 153 rfl) rfl
theorem q1658 : (Jvm.Cond.privateMethod ({ cls := "RoundingAuditorModel", name := "fresh", desc := "(IZI)V" } : Jvm.MethodName)) ∈ lw_tbl := lw_at lw_m7 154 rfl
theorem q1659 : (Jvm.Cond.instanceMethod ({ cls := "RoundingAuditorModel", name := "fresh", desc := "(IZI)V" } : Jvm.MethodName)) ∈ lw_all := lw_g (lw_at lw_m7 155 rfl) rfl
theorem q1660 : (Jvm.Cond.code ({ cls := "RoundingAuditorModel", name := "fresh", desc := "(IZI)V" } : Jvm.MethodName) prog_27_method_27_code (5 : Nat) (Option.none : Option Jvm.ClassFile.FieldType)) ∈ lw_all := lw_g (lw_at lw_m7 156 rfl) rfl
theorem q1662 : (Jvm.Cond.instanceMethod ({ cls := "RoundingAuditorModel", name := "set", desc := "(IIJ)I" } : Jvm.MethodName)) ∈ lw_all := lw_g (lw_at lw_m7 158 rfl) rfl
theorem q1663 : (Jvm.Cond.selects "RoundingAuditorModel" ({ cls := "RoundingAuditorModel", name := "set", desc := "(IIJ)I" } : Jvm.MethodName) ({ cls := "RoundingAuditorModel", name := "set", desc := "(IIJ)I" } : Jvm.MethodName)) ∈ lw_all := lw_g (lw_at lw_m7 159 rfl) rfl
theorem q1664 : (Jvm.Cond.code ({ cls := "RoundingAuditorModel", name := "set", desc := "(IIJ)I" } : Jvm.MethodName) prog_27_method_29_code (8 : Nat) (Option.some Jvm.ClassFile.FieldType.int)) ∈ lw_all := lw_g (lw_at lw_m7 160 rfl) rfl
theorem q1665 : (Jvm.Cond.methodLink "RoundingAuditorModel" (200 : Nat) ({ cls := "RoundingAuditorModel", name := "faultAt", desc := "(II)I" } : Jvm.MethodName)) ∈ lw_all := lw_g (lw_at lw_m7 161 rfl) rfl
theorem q1666 : (Jvm.Cond.privateMethod ({ cls := "RoundingAuditorModel", name := "faultAt", desc := "(II)I" } : Jvm.MethodName)) ∈ lw_tbl := lw_at lw_m7 162 rfl
theorem q1667 : (Jvm.Cond.instanceMethod ({ cls := "RoundingAuditorModel", name := "faultAt", desc := "(II)I" } : Jvm.MethodName)) ∈ lw_all := lw_g (lw_at lw_m7 163 rfl) rfl
theorem q1668 : (Jvm.Cond.code ({ cls := "RoundingAuditorModel", name := "faultAt", desc := "(II)I" } : Jvm.MethodName) prog_27_method_6_code (4 : Nat) (Option.some Jvm.ClassFile.FieldType.int)) ∈ lw_all := lw_g (lw_at lw_m7 164 rfl) rfl
theorem q1669 : (Jvm.Cond.methodLink "RoundingAuditorModel" (103 : Nat) ({ cls := "RoundingAuditorModel", name := "faultOf", desc := "(I)I" } : Jvm.MethodName)) ∈ lw_all := lw_g (lw_at lw_m7 165 rfl) rfl
theorem q1670 : (Jvm.Cond.privateMethod ({ cls := "RoundingAuditorModel", name := "faultOf", desc := "(I)I" } : Jvm.MethodName)) ∈ lw_tbl := lw_at lw_m7 166 rfl
theorem q1671 : (Jvm.Cond.instanceMethod ({ cls := "RoundingAuditorModel", name := "faultOf", desc := "(I)I" } : Jvm.MethodName)) ∈ lw_all := lw_g (lw_at lw_m7 167 rfl) rfl
theorem q1672 : (Jvm.Cond.code ({ cls := "RoundingAuditorModel", name := "faultOf", desc := "(I)I" } : Jvm.MethodName) prog_27_method_5_code (2 : Nat) (Option.some Jvm.ClassFile.FieldType.int)) ∈ lw_all := lw_g (lw_at lw_m7 168 rfl) rfl
theorem q1673 : (Jvm.Cond.constantLong "RoundingAuditorModel" (119 : Nat) (2047 : Int64)) ∈ lw_all := lw_g (lw_at lw_m7 169 rfl) rfl
theorem q1674 : (Jvm.Cond.methodLink "RoundingAuditorModel" (154 : Nat) ({ cls := "java/lang/Double", name := "longBitsToDouble", desc := "(J)D" } : Jvm.MethodName)) ∈ lw_all := lw_g (lw_at lw_m7 170 rfl) rfl
theorem q1675 : (Jvm.Cond.methodLink "RoundingAuditorModel" (204 : Nat) ({ cls := "java/lang/Float", name := "intBitsToFloat", desc := "(I)F" } : Jvm.MethodName)) ∈ lw_all := lw_g (lw_at lw_m7 171 rfl) rfl
theorem q1676 : (Jvm.Cond.constantDouble "RoundingAuditorModel" (208 : Nat) (5057542381537067008 : UInt64)) ∈ lw_all := lw_g (lw_at lw_m7 172 rfl) rfl
theorem q1677 : (Jvm.Cond.constantDouble "RoundingAuditorModel" (210 : Nat) (14280914418391842816 : UInt64)) ∈ lw_all := lw_g (lw_at lw_m7 173 rfl) rfl
theorem q1679 : (Jvm.Cond.instanceMethod ({ cls := "RoundingAuditorModel", name := "book", desc := "(IIII)I" } : Jvm.MethodName)) ∈ lw_all := lw_g (lw_at lw_m7 175 rfl) rfl
theorem q1680 : (Jvm.Cond.selects "RoundingAuditorModel" ({ cls := "RoundingAuditorModel", name := "book", desc := "(IIII)I" } : Jvm.MethodName) ({ cls := "RoundingAuditorModel", name := "book", desc := "(IIII)I" } : Jvm.MethodName)) ∈ lw_all := lw_g (lw_at lw_m7 176 rfl) rfl
theorem q1681 : (Jvm.Cond.code ({ cls := "RoundingAuditorModel", name := "book", desc := "(IIII)I" } : Jvm.MethodName) prog_27_method_30_code (5 : Nat) (Option.some Jvm.ClassFile.FieldType.int)) ∈ lw_all := lw_g (lw_at lw_m7 177 rfl) rfl
theorem q1682 : (Jvm.Cond.constantLong "RoundingAuditorModel" (212 : Nat) (9 : Int64)) ∈ lw_all := lw_g (lw_at lw_m7 178 rfl) rfl
theorem q1683 : (Jvm.Cond.constantLong "RoundingAuditorModel" (214 : Nat) (30 : Int64)) ∈ lw_all := lw_g (lw_at lw_m7 179 rfl) rfl
theorem q1685 : (Jvm.Cond.instanceMethod ({ cls := "RoundingAuditorModel", name := "amount", desc := "(II)J" } : Jvm.MethodName)) ∈ lw_all := lw_g (lw_at lw_m7 181 rfl) rfl
theorem q1686 : (Jvm.Cond.selects "RoundingAuditorModel" ({ cls := "RoundingAuditorModel", name := "amount", desc := "(II)J" } : Jvm.MethodName) ({ cls := "RoundingAuditorModel", name := "amount", desc := "(II)J" } : Jvm.MethodName)) ∈ lw_all := lw_g (lw_at lw_m7 182 rfl) rfl
theorem q1687 : (Jvm.Cond.code ({ cls := "RoundingAuditorModel", name := "amount", desc := "(II)J" } : Jvm.MethodName) prog_27_method_31_code (3 : Nat) (Option.some Jvm.ClassFile.FieldType.long)) ∈ lw_all := lw_g (lw_at lw_m7 183 rfl) rfl
theorem q1688 : (Jvm.Cond.methodLink "RoundingAuditorModel" (216 : Nat) ({ cls := "RoundingAuditorModel", name := "bitsOf", desc := "(ZD)J" } : Jvm.MethodName)) ∈ lw_all := lw_g (lw_at lw_m7 184 rfl) rfl
theorem q1689 : (Jvm.Cond.static ({ cls := "RoundingAuditorModel", name := "bitsOf", desc := "(ZD)J" } : Jvm.MethodName)) ∈ lw_all := lw_g (lw_at lw_m7 185 rfl) rfl
theorem q1690 : (Jvm.Cond.code ({ cls := "RoundingAuditorModel", name := "bitsOf", desc := "(ZD)J" } : Jvm.MethodName) prog_27_method_22_code (3 : Nat) (Option.some Jvm.ClassFile.FieldType.long)) ∈ lw_all := lw_g (lw_at lw_m7 186 rfl) rfl
theorem q1691 : (Jvm.Cond.methodLink "RoundingAuditorModel" (113 : Nat) ({ cls := "java/lang/Double", name := "doubleToLongBits", desc := "(D)J" } : Jvm.MethodName)) ∈ lw_all := lw_g (lw_at lw_m7 187 rfl) rfl
theorem q1692 : (Jvm.Cond.methodLink "RoundingAuditorModel" (161 : Nat) ({ cls := "java/lang/Float", name := "floatToIntBits", desc := "(F)I" } : Jvm.MethodName)) ∈ lw_all := lw_g (lw_at lw_m7 188 rfl) rfl
theorem q1694 : (Jvm.Cond.instanceMethod ({ cls := "RoundingAuditorModel", name := "entry", desc := "(III)I" } : Jvm.MethodName)) ∈ lw_all := lw_g (lw_at lw_m7 190 rfl) rfl
theorem q1695 : (Jvm.Cond.selects "RoundingAuditorModel" ({ cls := "RoundingAuditorModel", name := "entry", desc := "(III)I" } : Jvm.MethodName) ({ cls := "RoundingAuditorModel", name := "entry", desc := "(III)I" } : Jvm.MethodName)) ∈ lw_all := lw_g (lw_at lw_m7 191 rfl) rfl
theorem q1696 : (Jvm.Cond.code ({ cls := "RoundingAuditorModel", name := "entry", desc := "(III)I" } : Jvm.MethodName) prog_27_method_32_code (4 : Nat) (Option.some Jvm.ClassFile.FieldType.int)) ∈ lw_all := lw_g (lw_at lw_m7 192 rfl) rfl
theorem q1698 : (Jvm.Cond.instanceMethod ({ cls := "RoundingAuditorModel", name := "about", desc := "(II)I" } : Jvm.MethodName)) ∈ lw_all := lw_g (lw_at lw_m7 194 rfl) rfl
theorem q1699 : (Jvm.Cond.selects "RoundingAuditorModel" ({ cls := "RoundingAuditorModel", name := "about", desc := "(II)I" } : Jvm.MethodName) ({ cls := "RoundingAuditorModel", name := "about", desc := "(II)I" } : Jvm.MethodName)) ∈ lw_all := lw_g (lw_at lw_m7 195 rfl) rfl
theorem q1700 : (Jvm.Cond.code ({ cls := "RoundingAuditorModel", name := "about", desc := "(II)I" } : Jvm.MethodName) prog_27_method_35_code (5 : Nat) (Option.some Jvm.ClassFile.FieldType.int)) ∈ lw_all := lw_g (lw_at lw_m7 196 rfl) rfl
theorem q1701 : (Jvm.Cond.constantLong "RoundingAuditorModel" (235 : Nat) (6 : Int64)) ∈ lw_all := lw_g (lw_at lw_m7 197 rfl) rfl
theorem q1702 : (Jvm.Cond.methodLink "RoundingAuditorModel" (237 : Nat) ({ cls := "RoundingAuditorModel", name := "isSuch", desc := "(IDI)Z" } : Jvm.MethodName)) ∈ lw_all := lw_g (lw_at lw_m7 198 rfl) rfl
theorem q1703 : (Jvm.Cond.privateMethod ({ cls := "RoundingAuditorModel", name := "isSuch", desc := "(IDI)Z" } : Jvm.MethodName)) ∈ lw_tbl := lw_at lw_m7 199 rfl
theorem q1704 : (Jvm.Cond.instanceMethod ({ cls := "RoundingAuditorModel", name := "isSuch", desc := "(IDI)Z" } : Jvm.MethodName)) ∈ lw_all := lw_g (lw_at lw_m7 200 rfl) rfl
theorem q1705 : (Jvm.Cond.code ({ cls := "RoundingAuditorModel", name := "isSuch", desc := "(IDI)Z" } : Jvm.MethodName) prog_27_method_34_code (5 : Nat) (Option.some Jvm.ClassFile.FieldType.boolean)) ∈ lw_all := lw_g (lw_at lw_m7 201 rfl) rfl
theorem q1706 : (Jvm.Cond.methodLink "RoundingAuditorModel" (224 : Nat) ({ cls := "RoundingAuditorModel", name := "isMinus", desc := "(D)Z" } : Jvm.MethodName)) ∈ lw_all := lw_g (lw_at lw_m7 202 rfl) rfl
theorem q1707 : (Jvm.Cond.static ({ cls := "RoundingAuditorModel", name := "isMinus", desc := "(D)Z" } : Jvm.MethodName)) ∈ lw_all := lw_g (lw_at lw_m7 203 rfl) rfl
theorem q1708 : (Jvm.Cond.code ({ cls := "RoundingAuditorModel", name := "isMinus", desc := "(D)Z" } : Jvm.MethodName) prog_27_method_21_code (2 : Nat) (Option.some Jvm.ClassFile.FieldType.boolean)) ∈ lw_all := lw_g (lw_at lw_m7 204 rfl) rfl
theorem q1709 : (Jvm.Cond.methodLink "RoundingAuditorModel" (228 : Nat) ({ cls := "RoundingAuditorModel", name := "isWhole", desc := "(D)Z" } : Jvm.MethodName)) ∈ lw_all := lw_g (lw_at lw_m7 205 rfl) rfl
theorem q1710 : (Jvm.Cond.static ({ cls := "RoundingAuditorModel", name := "isWhole", desc := "(D)Z" } : Jvm.MethodName)) ∈ lw_all := lw_g (lw_at lw_m7 206 rfl) rfl
theorem q1711 : (Jvm.Cond.code ({ cls := "RoundingAuditorModel", name := "isWhole", desc := "(D)Z" } : Jvm.MethodName) prog_27_method_33_code (2 : Nat) (Option.some Jvm.ClassFile.FieldType.boolean)) ∈ lw_all := lw_g (lw_at lw_m7 207 rfl) rfl
theorem q1712 : (Jvm.Cond.constantDouble "RoundingAuditorModel" (220 : Nat) (4845873199050653696 : UInt64)) ∈ lw_all := lw_g (lw_at lw_m7 208 rfl) rfl
theorem q1713 : (Jvm.Cond.constantDouble "RoundingAuditorModel" (222 : Nat) (14069245235905429504 : UInt64)) ∈ lw_all := lw_g (lw_at lw_m7 209 rfl) rfl
theorem q1714 : (Jvm.Cond.methodLink "RoundingAuditorModel" (173 : Nat) ({ cls := "RoundingAuditorModel", name := "sizeOf", desc := "(D)D" } : Jvm.MethodName)) ∈ lw_all := lw_g (lw_at lw_m7 210 rfl) rfl
theorem q1715 : (Jvm.Cond.static ({ cls := "RoundingAuditorModel", name := "sizeOf", desc := "(D)D" } : Jvm.MethodName)) ∈ lw_all := lw_g (lw_at lw_m7 211 rfl) rfl
theorem q1716 : (Jvm.Cond.code ({ cls := "RoundingAuditorModel", name := "sizeOf", desc := "(D)D" } : Jvm.MethodName) prog_27_method_20_code (2 : Nat) (Option.some Jvm.ClassFile.FieldType.double)) ∈ lw_all := lw_g (lw_at lw_m7 212 rfl) rfl
theorem q1717 : (Jvm.Cond.constantDouble "RoundingAuditorModel" (231 : Nat) (4503599627370496 : UInt64)) ∈ lw_all := lw_g (lw_at lw_m7 213 rfl) rfl
theorem q1718 : (Jvm.Cond.constantDouble "RoundingAuditorModel" (233 : Nat) (4039728865751334912 : UInt64)) ∈ lw_all := lw_g (lw_at lw_m7 214 rfl) rfl
theorem q1720 : (Jvm.Cond.instanceMethod ({ cls := "RoundingAuditorModel", name := "filter", desc := "(III)I" } : Jvm.MethodName)) ∈ lw_all := lw_g (lw_at lw_m7 216 rfl) rfl
theorem q1721 : (Jvm.Cond.selects "RoundingAuditorModel" ({ cls := "RoundingAuditorModel", name := "filter", desc := "(III)I" } : Jvm.MethodName) ({ cls := "RoundingAuditorModel", name := "filter", desc := "(III)I" } : Jvm.MethodName)) ∈ lw_all := lw_g (lw_at lw_m7 217 rfl) rfl
theorem q1722 : (Jvm.Cond.code ({ cls := "RoundingAuditorModel", name := "filter", desc := "(III)I" } : Jvm.MethodName) prog_27_method_38_code (5 : Nat) (Option.some Jvm.ClassFile.FieldType.int)) ∈ lw_all := lw_g (lw_at lw_m7 218 rfl) rfl
theorem q1723 : (Jvm.Cond.constantLong "RoundingAuditorModel" (244 : Nat) (-1 : Int64)) ∈ lw_all := lw_g (lw_at lw_m7 219 rfl) rfl
theorem q1724 : (Jvm.Cond.methodLink "RoundingAuditorModel" (246 : Nat) ({ cls := "RoundingAuditorModel", name := "toSpare", desc := "(II)V" } : Jvm.MethodName)) ∈ lw_all := lw_g (lw_at lw_m7 220 rfl) rfl
theorem q1725 : (Jvm.Cond.privateMethod ({ cls := "RoundingAuditorModel", name := "toSpare", desc := "(II)V" } : Jvm.MethodName)) ∈ lw_tbl := lw_at lw_m7 221 rfl
theorem q1726 : (Jvm.Cond.instanceMethod ({ cls := "RoundingAuditorModel", name := "toSpare", desc := "(II)V" } : Jvm.MethodName)) ∈ lw_all := lw_g (lw_at lw_m7 222 rfl) rfl
theorem q1727 : (Jvm.Cond.code ({ cls := "RoundingAuditorModel", name := "toSpare", desc := "(II)V" } : Jvm.MethodName) prog_27_method_36_code (3 : Nat) (Option.none : Option Jvm.ClassFile.FieldType)) ∈ lw_all := lw_g (lw_at lw_m7 223 rfl) rfl
theorem q1728 : (Jvm.Cond.methodLink "RoundingAuditorModel" (249 : Nat) ({ cls := "RoundingAuditorModel", name := "fromSpare", desc := "(IZ)I" } : Jvm.MethodName)) ∈ lw_all := lw_g (lw_at lw_m7 224 rfl) rfl
theorem q1729 : (Jvm.Cond.privateMethod ({ cls := "RoundingAuditorModel", name := "fromSpare", desc := "(IZ)I" } : Jvm.MethodName)) ∈ lw_tbl := lw_at lw_m7 225 rfl
theorem q1730 : (Jvm.Cond.instanceMethod ({ cls := "RoundingAuditorModel", name := "fromSpare", desc := "(IZ)I" } : Jvm.MethodName)) ∈ lw_all := lw_g (lw_at lw_m7 226 rfl) rfl
theorem q1731 : (Jvm.Cond.code ({ cls := "RoundingAuditorModel", name := "fromSpare", desc := "(IZ)I" } : Jvm.MethodName) prog_27_method_37_code (4 : Nat) (Option.some Jvm.ClassFile.FieldType.int)) ∈ lw_all := lw_g (lw_at lw_m7 227 rfl) rfl
theorem q1733 : (Jvm.Cond.instanceMethod ({ cls := "RoundingAuditorModel", name := "mix", desc := "(III)I" } : Jvm.MethodName)) ∈ lw_all := lw_g (lw_at lw_m7 229 rfl) rfl
theorem q1734 : (Jvm.Cond.selects "RoundingAuditorModel" ({ cls := "RoundingAuditorModel", name := "mix", desc := "(III)I" } : Jvm.MethodName) ({ cls := "RoundingAuditorModel", name := "mix", desc := "(III)I" } : Jvm.MethodName)) ∈ lw_all := lw_g (lw_at lw_m7 230 rfl) rfl
theorem q1735 : (Jvm.Cond.code ({ cls := "RoundingAuditorModel", name := "mix", desc := "(III)I" } : Jvm.MethodName) prog_27_method_39_code (5 : Nat) (Option.some Jvm.ClassFile.FieldType.int)) ∈ lw_all := lw_g (lw_at lw_m7 231 rfl) rfl
theorem q1737 : (Jvm.Cond.instanceMethod ({ cls := "RoundingAuditorModel", name := "same", desc := "(II)I" } : Jvm.MethodName)) ∈ lw_all := lw_g (lw_at lw_m7 233 rfl) rfl
theorem q1738 : (Jvm.Cond.selects "RoundingAuditorModel" ({ cls := "RoundingAuditorModel", name := "same", desc := "(II)I" } : Jvm.MethodName) ({ cls := "RoundingAuditorModel", name := "same", desc := "(II)I" } : Jvm.MethodName)) ∈ lw_all := lw_g (lw_at lw_m7 234 rfl) rfl
theorem q1739 : (Jvm.Cond.code ({ cls := "RoundingAuditorModel", name := "same", desc := "(II)I" } : Jvm.MethodName) prog_27_method_40_code (5 : Nat) (Option.some Jvm.ClassFile.FieldType.int)) ∈ lw_all := lw_g (lw_at lw_m7 235 rfl) rfl
theorem q1741 : (Jvm.Cond.instanceMethod ({ cls := "RoundingAuditorModel", name := "worked", desc := "(IIII)J" } : Jvm.MethodName)) ∈ lw_all := lw_g (lw_at lw_m7 237 rfl) rfl
theorem q1742 : (Jvm.Cond.selects "RoundingAuditorModel" ({ cls := "RoundingAuditorModel", name := "worked", desc := "(IIII)J" } : Jvm.MethodName) ({ cls := "RoundingAuditorModel", name := "worked", desc := "(IIII)J" } : Jvm.MethodName)) ∈ lw_all := lw_g (lw_at lw_m7 238 rfl) rfl
theorem q1743 : (Jvm.Cond.code ({ cls := "RoundingAuditorModel", name := "worked", desc := "(IIII)J" } : Jvm.MethodName) prog_27_method_47_code (9 : Nat) (Option.some Jvm.ClassFile.FieldType.long)) ∈ lw_all := lw_g (lw_at lw_m7 239 rfl) rfl
theorem q1744 : (Jvm.Cond.constantLong "RoundingAuditorModel" (275 : Nat) (8 : Int64)) ∈ lw_all := lw_g (lw_at lw_m8 0 rfl) rfl
theorem q1745 : (Jvm.Cond.constantLong "RoundingAuditorModel" (277 : Nat) (-102 : Int64)) ∈ lw_all := lw_g (lw_at lw_m8 1 rfl) rfl
theorem q1746 : (Jvm.Cond.methodLink "RoundingAuditorModel" (279 : Nat) ({ cls := "RoundingAuditorModel", name := "workedOf", desc := "(DDI)D" } : Jvm.MethodName)) ∈ lw_all := lw_g (lw_at lw_m8 2 rfl) rfl
theorem q1747 : (Jvm.Cond.privateMethod ({ cls := "RoundingAuditorModel", name := "workedOf", desc := "(DDI)D" } : Jvm.MethodName)) ∈ lw_tbl := lw_at lw_m8 3 rfl
theorem q1748 : (Jvm.Cond.instanceMethod ({ cls := "RoundingAuditorModel", name := "workedOf", desc := "(DDI)D" } : Jvm.MethodName)) ∈ lw_all := lw_g (lw_at lw_m8 4 rfl) rfl
theorem q1749 : (Jvm.Cond.code ({ cls := "RoundingAuditorModel", name := "workedOf", desc := "(DDI)D" } : Jvm.MethodName) prog_27_method_46_code (6 : Nat) (Option.some Jvm.ClassFile.FieldType.double)) ∈ lw_all := lw_g (lw_at lw_m8 5 rfl) rfl
theorem q1750 : (Jvm.Cond.methodLink "RoundingAuditorModel" (262 : Nat) ({ cls := "RoundingAuditorModel", name := "roundedBy", desc := "(DI)D" } : Jvm.MethodName)) ∈ lw_all := lw_g (lw_at lw_m8 6 rfl) rfl
theorem q1751 : (Jvm.Cond.static ({ cls := "RoundingAuditorModel", name := "roundedBy", desc := "(DI)D" } : Jvm.MethodName)) ∈ lw_all := lw_g (lw_at lw_m8 7 rfl) rfl
theorem q1752 : (Jvm.Cond.code ({ cls := "RoundingAuditorModel", name := "roundedBy", desc := "(DI)D" } : Jvm.MethodName) prog_27_method_43_code (11 : Nat) (Option.some Jvm.ClassFile.FieldType.double)) ∈ lw_all := lw_g (lw_at lw_m8 8 rfl) rfl
theorem q1753 : (Jvm.Cond.methodLink "RoundingAuditorModel" (253 : Nat) ({ cls := "RoundingAuditorModel", name := "cut", desc := "(D)D" } : Jvm.MethodName)) ∈ lw_all := lw_g (lw_at lw_m8 9 rfl) rfl
theorem q1754 : (Jvm.Cond.static ({ cls := "RoundingAuditorModel", name := "cut", desc := "(D)D" } : Jvm.MethodName)) ∈ lw_all := lw_g (lw_at lw_m8 10 rfl) rfl
theorem q1755 : (Jvm.Cond.code ({ cls := "RoundingAuditorModel", name := "cut", desc := "(D)D" } : Jvm.MethodName) prog_27_method_42_code (2 : Nat) (Option.some Jvm.ClassFile.FieldType.double)) ∈ lw_all := lw_g (lw_at lw_m8 11 rfl) rfl
theorem q1756 : (Jvm.Cond.constantDouble "RoundingAuditorModel" (256 : Nat) (4602678819172646912 : UInt64)) ∈ lw_all := lw_g (lw_at lw_m8 12 rfl) rfl
theorem q1757 : (Jvm.Cond.methodLink "RoundingAuditorModel" (258 : Nat) ({ cls := "RoundingAuditorModel", name := "signed", desc := "(DZ)D" } : Jvm.MethodName)) ∈ lw_all := lw_g (lw_at lw_m8 13 rfl) rfl
theorem q1758 : (Jvm.Cond.static ({ cls := "RoundingAuditorModel", name := "signed", desc := "(DZ)D" } : Jvm.MethodName)) ∈ lw_all := lw_g (lw_at lw_m8 14 rfl) rfl
theorem q1759 : (Jvm.Cond.code ({ cls := "RoundingAuditorModel", name := "signed", desc := "(DZ)D" } : Jvm.MethodName) prog_27_method_41_code (3 : Nat) (Option.some Jvm.ClassFile.FieldType.double)) ∈ lw_all := lw_g (lw_at lw_m8 15 rfl) rfl
theorem q1760 : (Jvm.Cond.constantDouble "RoundingAuditorModel" (266 : Nat) (13830554455654793216 : UInt64)) ∈ lw_all := lw_g (lw_at lw_m8 16 rfl) rfl
theorem q1761 : (Jvm.Cond.methodLink "RoundingAuditorModel" (268 : Nat) ({ cls := "RoundingAuditorModel", name := "lesser", desc := "(DD)D" } : Jvm.MethodName)) ∈ lw_all := lw_g (lw_at lw_m8 17 rfl) rfl
theorem q1762 : (Jvm.Cond.static ({ cls := "RoundingAuditorModel", name := "lesser", desc := "(DD)D" } : Jvm.MethodName)) ∈ lw_all := lw_g (lw_at lw_m8 18 rfl) rfl
theorem q1763 : (Jvm.Cond.code ({ cls := "RoundingAuditorModel", name := "lesser", desc := "(DD)D" } : Jvm.MethodName) prog_27_method_44_code (4 : Nat) (Option.some Jvm.ClassFile.FieldType.double)) ∈ lw_all := lw_g (lw_at lw_m8 19 rfl) rfl
theorem q1764 : (Jvm.Cond.methodLink "RoundingAuditorModel" (272 : Nat) ({ cls := "RoundingAuditorModel", name := "greater", desc := "(DD)D" } : Jvm.MethodName)) ∈ lw_all := lw_g (lw_at lw_m8 20 rfl) rfl
theorem q1765 : (Jvm.Cond.static ({ cls := "RoundingAuditorModel", name := "greater", desc := "(DD)D" } : Jvm.MethodName)) ∈ lw_all := lw_g (lw_at lw_m8 21 rfl) rfl
theorem q1766 : (Jvm.Cond.code ({ cls := "RoundingAuditorModel", name := "greater", desc := "(DD)D" } : Jvm.MethodName) prog_27_method_45_code (4 : Nat) (Option.some Jvm.ClassFile.FieldType.double)) ∈ lw_all := lw_g (lw_at lw_m8 22 rfl) rfl
theorem q1768 : (Jvm.Cond.instanceMethod ({ cls := "RoundingAuditorModel", name := "whole", desc := "(III)J" } : Jvm.MethodName)) ∈ lw_all := lw_g (lw_at lw_m8 24 rfl) rfl
theorem q1769 : (Jvm.Cond.selects "RoundingAuditorModel" ({ cls := "RoundingAuditorModel", name := "whole", desc := "(III)J" } : Jvm.MethodName) ({ cls := "RoundingAuditorModel", name := "whole", desc := "(III)J" } : Jvm.MethodName)) ∈ lw_all := lw_g (lw_at lw_m8 25 rfl) rfl
theorem q1770 : (Jvm.Cond.code ({ cls := "RoundingAuditorModel", name := "whole", desc := "(III)J" } : Jvm.MethodName) prog_27_method_48_code (6 : Nat) (Option.some Jvm.ClassFile.FieldType.long)) ∈ lw_all := lw_g (lw_at lw_m8 26 rfl) rfl
theorem q1771 : (Jvm.Cond.constantLong "RoundingAuditorModel" (283 : Nat) (3 : Int64)) ∈ lw_all := lw_g (lw_at lw_m8 27 rfl) rfl
theorem q1773 : (Jvm.Cond.instanceMethod ({ cls := "RoundingAuditorModel", name := "units", desc := "(III)J" } : Jvm.MethodName)) ∈ lw_all := lw_g (lw_at lw_m8 29 rfl) rfl
theorem q1774 : (Jvm.Cond.selects "RoundingAuditorModel" ({ cls := "RoundingAuditorModel", name := "units", desc := "(III)J" } : Jvm.MethodName) ({ cls := "RoundingAuditorModel", name := "units", desc := "(III)J" } : Jvm.MethodName)) ∈ lw_all := lw_g (lw_at lw_m8 30 rfl) rfl
theorem q1775 : (Jvm.Cond.code ({ cls := "RoundingAuditorModel", name := "units", desc := "(III)J" } : Jvm.MethodName) prog_27_method_49_code (4 : Nat) (Option.some Jvm.ClassFile.FieldType.long)) ∈ lw_all := lw_g (lw_at lw_m8 31 rfl) rfl
theorem q1776 : (Jvm.Cond.methodLink "RoundingAuditorModel" (285 : Nat) ({ cls := "RoundingAuditorModel", name := "hasUnits", desc := "(DI)Z" } : Jvm.MethodName)) ∈ lw_all := lw_g (lw_at lw_m8 32 rfl) rfl
theorem q1777 : (Jvm.Cond.privateMethod ({ cls := "RoundingAuditorModel", name := "hasUnits", desc := "(DI)Z" } : Jvm.MethodName)) ∈ lw_tbl := lw_at lw_m8 33 rfl
theorem q1778 : (Jvm.Cond.instanceMethod ({ cls := "RoundingAuditorModel", name := "hasUnits", desc := "(DI)Z" } : Jvm.MethodName)) ∈ lw_all := lw_g (lw_at lw_m8 34 rfl) rfl
theorem q1779 : (Jvm.Cond.code ({ cls := "RoundingAuditorModel", name := "hasUnits", desc := "(DI)Z" } : Jvm.MethodName) prog_27_method_26_code (25 : Nat) (Option.some Jvm.ClassFile.FieldType.boolean)) ∈ lw_all := lw_g (lw_at lw_m8 35 rfl) rfl
theorem q1780 : (Jvm.Cond.methodLink "RoundingAuditorModel" (177 : Nat) ({ cls := "RoundingAuditorModel", name := "tens", desc := "(I)J" } : Jvm.MethodName)) ∈ lw_all := lw_g (lw_at lw_m8 36 rfl) rfl
theorem q1781 : (Jvm.Cond.static ({ cls := "RoundingAuditorModel", name := "tens", desc := "(I)J" } : Jvm.MethodName)) ∈ lw_all := lw_g (lw_at lw_m8 37 rfl) rfl
theorem q1782 : (Jvm.Cond.code ({ cls := "RoundingAuditorModel", name := "tens", desc := "(I)J" } : Jvm.MethodName) prog_27_method_25_code (4 : Nat) (Option.some Jvm.ClassFile.FieldType.long)) ∈ lw_all := lw_g (lw_at lw_m8 38 rfl) rfl
theorem q1783 : (Jvm.Cond.constantLong "RoundingAuditorModel" (171 : Nat) (10 : Int64)) ∈ lw_all := lw_g (lw_at lw_m8 39 rfl) rfl
theorem q1784 : (Jvm.Cond.constantDouble "RoundingAuditorModel" (185 : Nat) (4831355200913801224 : UInt64)) ∈ lw_all := lw_g (lw_at lw_m8 40 rfl) rfl
theorem q1785 : (Jvm.Cond.constantDouble "RoundingAuditorModel" (187 : Nat) (4835858800541171712 : UInt64)) ∈ lw_all := lw_g (lw_at lw_m8 41 rfl) rfl
theorem q1786 : (Jvm.Cond.constantLong "RoundingAuditorModel" (121 : Nat) (4503599627370495 : Int64)) ∈ lw_all := lw_g (lw_at lw_m8 42 rfl) rfl
theorem q1787 : (Jvm.Cond.constantLong "RoundingAuditorModel" (123 : Nat) (4503599627370496 : Int64)) ∈ lw_all := lw_g (lw_at lw_m8 43 rfl) rfl
theorem q1788 : (Jvm.Cond.constantLong "RoundingAuditorModel" (189 : Nat) (1073741823 : Int64)) ∈ lw_all := lw_g (lw_at lw_m8 44 rfl) rfl
theorem q1789 : (Jvm.Cond.constantLong "RoundingAuditorModel" (146 : Nat) (2 : Int64)) ∈ lw_all := lw_g (lw_at lw_m8 45 rfl) rfl
theorem q1790 : (Jvm.Cond.constantLong "RoundingAuditorModel" (191 : Nat) (1000000000000000 : Int64)) ∈ lw_all := lw_g (lw_at lw_m8 46 rfl) rfl
theorem q1791 : (Jvm.Cond.constantLong "RoundingAuditorModel" (289 : Nat) (-105 : Int64)) ∈ lw_all := lw_g (lw_at lw_m8 47 rfl) rfl
theorem q1793 : (Jvm.Cond.instanceMethod ({ cls := "RoundingAuditorModel", name := "give", desc := "(II)I" } : Jvm.MethodName)) ∈ lw_all := lw_g (lw_at lw_m8 49 rfl) rfl
theorem q1794 : (Jvm.Cond.selects "RoundingAuditorModel" ({ cls := "RoundingAuditorModel", name := "give", desc := "(II)I" } : Jvm.MethodName) ({ cls := "RoundingAuditorModel", name := "give", desc := "(II)I" } : Jvm.MethodName)) ∈ lw_all := lw_g (lw_at lw_m8 50 rfl) rfl
theorem q1795 : (Jvm.Cond.code ({ cls := "RoundingAuditorModel", name := "give", desc := "(II)I" } : Jvm.MethodName) prog_27_method_50_code (4 : Nat) (Option.some Jvm.ClassFile.FieldType.int)) ∈ lw_all := lw_g (lw_at lw_m8 51 rfl) rfl
theorem q1797 : (Jvm.Cond.instanceMethod ({ cls := "RoundingAuditorModel", name := "run", desc := "(III)I" } : Jvm.MethodName)) ∈ lw_all := lw_g (lw_at lw_m8 53 rfl) rfl
theorem q1798 : (Jvm.Cond.selects "RoundingAuditorModel" ({ cls := "RoundingAuditorModel", name := "run", desc := "(III)I" } : Jvm.MethodName) ({ cls := "RoundingAuditorModel", name := "run", desc := "(III)I" } : Jvm.MethodName)) ∈ lw_all := lw_g (lw_at lw_m8 54 rfl) rfl
theorem q1799 : (Jvm.Cond.code ({ cls := "RoundingAuditorModel", name := "run", desc := "(III)I" } : Jvm.MethodName) prog_27_method_64_code (6 : Nat) (Option.some Jvm.ClassFile.FieldType.int)) ∈ lw_all := lw_g (lw_at lw_m8 55 rfl) rfl
theorem q1800 : (Jvm.Cond.constantLong "RoundingAuditorModel" (352 : Nat) (13 : Int64)) ∈ lw_all := lw_g (lw_at lw_m8 56 rfl) rfl
theorem q1801 : (Jvm.Cond.constantLong "RoundingAuditorModel" (354 : Nat) (60 : Int64)) ∈ lw_all := lw_g (lw_at lw_m8 57 rfl) rfl
theorem q1802 : (Jvm.Cond.methodLink "RoundingAuditorModel" (359 : Nat) ({ cls := "RoundingAuditorModel", name := "totalOf", desc := "(III)D" } : Jvm.MethodName)) ∈ lw_all := lw_g (lw_at lw_m8 58 rfl) rfl
theorem q1803 : (Jvm.Cond.privateMethod ({ cls := "RoundingAuditorModel", name := "totalOf", desc := "(III)D" } : Jvm.MethodName)) ∈ lw_tbl := lw_at lw_m8 59 rfl
theorem q1804 : (Jvm.Cond.instanceMethod ({ cls := "RoundingAuditorModel", name := "totalOf", desc := "(III)D" } : Jvm.MethodName)) ∈ lw_all := lw_g (lw_at lw_m8 60 rfl) rfl
theorem q1805 : (Jvm.Cond.code ({ cls := "RoundingAuditorModel", name := "totalOf", desc := "(III)D" } : Jvm.MethodName) prog_27_method_63_code (4 : Nat) (Option.some Jvm.ClassFile.FieldType.double)) ∈ lw_all := lw_g (lw_at lw_m8 61 rfl) rfl
theorem q1806 : (Jvm.Cond.methodLink "RoundingAuditorModel" (331 : Nat) ({ cls := "RoundingAuditorModel", name := "byUnits", desc := "(II)D" } : Jvm.MethodName)) ∈ lw_all := lw_g (lw_at lw_m8 62 rfl) rfl
theorem q1807 : (Jvm.Cond.privateMethod ({ cls := "RoundingAuditorModel", name := "byUnits", desc := "(II)D" } : Jvm.MethodName)) ∈ lw_tbl := lw_at lw_m8 63 rfl
theorem q1808 : (Jvm.Cond.instanceMethod ({ cls := "RoundingAuditorModel", name := "byUnits", desc := "(II)D" } : Jvm.MethodName)) ∈ lw_all := lw_g (lw_at lw_m8 64 rfl) rfl
theorem q1809 : (Jvm.Cond.code ({ cls := "RoundingAuditorModel", name := "byUnits", desc := "(II)D" } : Jvm.MethodName) prog_27_method_62_code (7 : Nat) (Option.some Jvm.ClassFile.FieldType.double)) ∈ lw_all := lw_g (lw_at lw_m8 65 rfl) rfl
theorem q1810 : (Jvm.Cond.methodLink "RoundingAuditorModel" (335 : Nat) ({ cls := "RoundingAuditorModel", name := "halves", desc := "(I)D" } : Jvm.MethodName)) ∈ lw_all := lw_g (lw_at lw_m8 66 rfl) rfl
theorem q1811 : (Jvm.Cond.privateMethod ({ cls := "RoundingAuditorModel", name := "halves", desc := "(I)D" } : Jvm.MethodName)) ∈ lw_tbl := lw_at lw_m8 67 rfl
theorem q1812 : (Jvm.Cond.instanceMethod ({ cls := "RoundingAuditorModel", name := "halves", desc := "(I)D" } : Jvm.MethodName)) ∈ lw_all := lw_g (lw_at lw_m8 68 rfl) rfl
theorem q1813 : (Jvm.Cond.code ({ cls := "RoundingAuditorModel", name := "halves", desc := "(I)D" } : Jvm.MethodName) prog_27_method_56_code (7 : Nat) (Option.some Jvm.ClassFile.FieldType.double)) ∈ lw_all := lw_g (lw_at lw_m8 69 rfl) rfl
theorem q1814 : (Jvm.Cond.methodLink "RoundingAuditorModel" (316 : Nat) ({ cls := "RoundingAuditorModel", name := "adds", desc := "(DD)D" } : Jvm.MethodName)) ∈ lw_all := lw_g (lw_at lw_m8 70 rfl) rfl
theorem q1815 : (Jvm.Cond.privateMethod ({ cls := "RoundingAuditorModel", name := "adds", desc := "(DD)D" } : Jvm.MethodName)) ∈ lw_tbl := lw_at lw_m8 71 rfl
theorem q1816 : (Jvm.Cond.instanceMethod ({ cls := "RoundingAuditorModel", name := "adds", desc := "(DD)D" } : Jvm.MethodName)) ∈ lw_all := lw_g (lw_at lw_m8 72 rfl) rfl
theorem q1817 : (Jvm.Cond.code ({ cls := "RoundingAuditorModel", name := "adds", desc := "(DD)D" } : Jvm.MethodName) prog_27_method_52_code (5 : Nat) (Option.some Jvm.ClassFile.FieldType.double)) ∈ lw_all := lw_g (lw_at lw_m8 73 rfl) rfl
theorem q1818 : (Jvm.Cond.methodLink "RoundingAuditorModel" (300 : Nat) ({ cls := "RoundingAuditorModel", name := "sum", desc := "(DD)D" } : Jvm.MethodName)) ∈ lw_all := lw_g (lw_at lw_m8 74 rfl) rfl
theorem q1819 : (Jvm.Cond.privateMethod ({ cls := "RoundingAuditorModel", name := "sum", desc := "(DD)D" } : Jvm.MethodName)) ∈ lw_tbl := lw_at lw_m8 75 rfl
theorem q1820 : (Jvm.Cond.instanceMethod ({ cls := "RoundingAuditorModel", name := "sum", desc := "(DD)D" } : Jvm.MethodName)) ∈ lw_all := lw_g (lw_at lw_m8 76 rfl) rfl
theorem q1821 : (Jvm.Cond.code ({ cls := "RoundingAuditorModel", name := "sum", desc := "(DD)D" } : Jvm.MethodName) prog_27_method_23_code (5 : Nat) (Option.some Jvm.ClassFile.FieldType.double)) ∈ lw_all := lw_g (lw_at lw_m8 77 rfl) rfl
theorem q1822 : (Jvm.Cond.methodLink "RoundingAuditorModel" (303 : Nat) ({ cls := "RoundingAuditorModel", name := "stepped", desc := "(DDD)D" } : Jvm.MethodName)) ∈ lw_all := lw_g (lw_at lw_m8 78 rfl) rfl
theorem q1823 : (Jvm.Cond.privateMethod ({ cls := "RoundingAuditorModel", name := "stepped", desc := "(DDD)D" } : Jvm.MethodName)) ∈ lw_tbl := lw_at lw_m8 79 rfl
theorem q1824 : (Jvm.Cond.instanceMethod ({ cls := "RoundingAuditorModel", name := "stepped", desc := "(DDD)D" } : Jvm.MethodName)) ∈ lw_all := lw_g (lw_at lw_m8 80 rfl) rfl
theorem q1825 : (Jvm.Cond.code ({ cls := "RoundingAuditorModel", name := "stepped", desc := "(DDD)D" } : Jvm.MethodName) prog_27_method_51_code (7 : Nat) (Option.some Jvm.ClassFile.FieldType.double)) ∈ lw_all := lw_g (lw_at lw_m8 81 rfl) rfl
theorem q1826 : (Jvm.Cond.methodLink "RoundingAuditorModel" (339 : Nat) ({ cls := "RoundingAuditorModel", name := "blocks", desc := "(II)D" } : Jvm.MethodName)) ∈ lw_all := lw_g (lw_at lw_m8 82 rfl) rfl
theorem q1827 : (Jvm.Cond.privateMethod ({ cls := "RoundingAuditorModel", name := "blocks", desc := "(II)D" } : Jvm.MethodName)) ∈ lw_tbl := lw_at lw_m8 83 rfl
theorem q1828 : (Jvm.Cond.instanceMethod ({ cls := "RoundingAuditorModel", name := "blocks", desc := "(II)D" } : Jvm.MethodName)) ∈ lw_all := lw_g (lw_at lw_m8 84 rfl) rfl
theorem q1829 : (Jvm.Cond.code ({ cls := "RoundingAuditorModel", name := "blocks", desc := "(II)D" } : Jvm.MethodName) prog_27_method_57_code (8 : Nat) (Option.some Jvm.ClassFile.FieldType.double)) ∈ lw_all := lw_g (lw_at lw_m8 85 rfl) rfl
theorem q1830 : (Jvm.Cond.methodLink "RoundingAuditorModel" (342 : Nat) ({ cls := "RoundingAuditorModel", name := "queue", desc := "(I)D" } : Jvm.MethodName)) ∈ lw_all := lw_g (lw_at lw_m8 86 rfl) rfl
theorem q1831 : (Jvm.Cond.privateMethod ({ cls := "RoundingAuditorModel", name := "queue", desc := "(I)D" } : Jvm.MethodName)) ∈ lw_tbl := lw_at lw_m8 87 rfl
theorem q1832 : (Jvm.Cond.instanceMethod ({ cls := "RoundingAuditorModel", name := "queue", desc := "(I)D" } : Jvm.MethodName)) ∈ lw_all := lw_g (lw_at lw_m8 88 rfl) rfl
theorem q1833 : (Jvm.Cond.code ({ cls := "RoundingAuditorModel", name := "queue", desc := "(I)D" } : Jvm.MethodName) prog_27_method_60_code (9 : Nat) (Option.some Jvm.ClassFile.FieldType.double)) ∈ lw_all := lw_g (lw_at lw_m8 89 rfl) rfl
theorem q1834 : (Jvm.Cond.methodLink "RoundingAuditorModel" (319 : Nat) ({ cls := "RoundingAuditorModel", name := "taken", desc := "(I)I" } : Jvm.MethodName)) ∈ lw_all := lw_g (lw_at lw_m8 90 rfl) rfl
theorem q1835 : (Jvm.Cond.privateMethod ({ cls := "RoundingAuditorModel", name := "taken", desc := "(I)I" } : Jvm.MethodName)) ∈ lw_tbl := lw_at lw_m8 91 rfl
theorem q1836 : (Jvm.Cond.instanceMethod ({ cls := "RoundingAuditorModel", name := "taken", desc := "(I)I" } : Jvm.MethodName)) ∈ lw_all := lw_g (lw_at lw_m8 92 rfl) rfl
theorem q1837 : (Jvm.Cond.code ({ cls := "RoundingAuditorModel", name := "taken", desc := "(I)I" } : Jvm.MethodName) prog_27_method_58_code (4 : Nat) (Option.some Jvm.ClassFile.FieldType.int)) ∈ lw_all := lw_g (lw_at lw_m8 93 rfl) rfl
theorem q1838 : (Jvm.Cond.methodLink "RoundingAuditorModel" (322 : Nat) ({ cls := "RoundingAuditorModel", name := "out", desc := "(II)V" } : Jvm.MethodName)) ∈ lw_all := lw_g (lw_at lw_m8 94 rfl) rfl
theorem q1839 : (Jvm.Cond.privateMethod ({ cls := "RoundingAuditorModel", name := "out", desc := "(II)V" } : Jvm.MethodName)) ∈ lw_tbl := lw_at lw_m8 95 rfl
theorem q1840 : (Jvm.Cond.instanceMethod ({ cls := "RoundingAuditorModel", name := "out", desc := "(II)V" } : Jvm.MethodName)) ∈ lw_all := lw_g (lw_at lw_m8 96 rfl) rfl
theorem q1841 : (Jvm.Cond.code ({ cls := "RoundingAuditorModel", name := "out", desc := "(II)V" } : Jvm.MethodName) prog_27_method_59_code (4 : Nat) (Option.none : Option Jvm.ClassFile.FieldType)) ∈ lw_all := lw_g (lw_at lw_m8 97 rfl) rfl
theorem q1842 : (Jvm.Cond.methodLink "RoundingAuditorModel" (345 : Nat) ({ cls := "RoundingAuditorModel", name := "carried", desc := "(IZ)D" } : Jvm.MethodName)) ∈ lw_all := lw_g (lw_at lw_m8 98 rfl) rfl
theorem q1843 : (Jvm.Cond.privateMethod ({ cls := "RoundingAuditorModel", name := "carried", desc := "(IZ)D" } : Jvm.MethodName)) ∈ lw_tbl := lw_at lw_m8 99 rfl
theorem q1844 : (Jvm.Cond.instanceMethod ({ cls := "RoundingAuditorModel", name := "carried", desc := "(IZ)D" } : Jvm.MethodName)) ∈ lw_all := lw_g (lw_at lw_m8 100 rfl) rfl
theorem q1845 : (Jvm.Cond.code ({ cls := "RoundingAuditorModel", name := "carried", desc := "(IZ)D" } : Jvm.MethodName) prog_27_method_61_code (14 : Nat) (Option.some Jvm.ClassFile.FieldType.double)) ∈ lw_all := lw_g (lw_at lw_m8 101 rfl) rfl
theorem q1846 : (Jvm.Cond.methodLink "RoundingAuditorModel" (325 : Nat) ({ cls := "RoundingAuditorModel", name := "less", desc := "(DD)D" } : Jvm.MethodName)) ∈ lw_all := lw_g (lw_at lw_m8 102 rfl) rfl
theorem q1847 : (Jvm.Cond.privateMethod ({ cls := "RoundingAuditorModel", name := "less", desc := "(DD)D" } : Jvm.MethodName)) ∈ lw_tbl := lw_at lw_m8 103 rfl
theorem q1848 : (Jvm.Cond.instanceMethod ({ cls := "RoundingAuditorModel", name := "less", desc := "(DD)D" } : Jvm.MethodName)) ∈ lw_all := lw_g (lw_at lw_m8 104 rfl) rfl
theorem q1849 : (Jvm.Cond.code ({ cls := "RoundingAuditorModel", name := "less", desc := "(DD)D" } : Jvm.MethodName) prog_27_method_24_code (5 : Nat) (Option.some Jvm.ClassFile.FieldType.double)) ∈ lw_all := lw_g (lw_at lw_m8 105 rfl) rfl
theorem q1850 : (Jvm.Cond.methodLink "RoundingAuditorModel" (349 : Nat) ({ cls := "RoundingAuditorModel", name := "inOrder", desc := "(II)D" } : Jvm.MethodName)) ∈ lw_all := lw_g (lw_at lw_m8 106 rfl) rfl
theorem q1851 : (Jvm.Cond.privateMethod ({ cls := "RoundingAuditorModel", name := "inOrder", desc := "(II)D" } : Jvm.MethodName)) ∈ lw_tbl := lw_at lw_m8 107 rfl
theorem q1852 : (Jvm.Cond.instanceMethod ({ cls := "RoundingAuditorModel", name := "inOrder", desc := "(II)D" } : Jvm.MethodName)) ∈ lw_all := lw_g (lw_at lw_m8 108 rfl) rfl
theorem q1853 : (Jvm.Cond.code ({ cls := "RoundingAuditorModel", name := "inOrder", desc := "(II)D" } : Jvm.MethodName) prog_27_method_55_code (8 : Nat) (Option.some Jvm.ClassFile.FieldType.double)) ∈ lw_all := lw_g (lw_at lw_m8 109 rfl) rfl
theorem q1854 : (Jvm.Cond.methodLink "RoundingAuditorModel" (313 : Nat) ({ cls := "RoundingAuditorModel", name := "orderBy", desc := "(II)V" } : Jvm.MethodName)) ∈ lw_all := lw_g (lw_at lw_m8 110 rfl) rfl
theorem q1855 : (Jvm.Cond.privateMethod ({ cls := "RoundingAuditorModel", name := "orderBy", desc := "(II)V" } : Jvm.MethodName)) ∈ lw_tbl := lw_at lw_m8 111 rfl
theorem q1856 : (Jvm.Cond.instanceMethod ({ cls := "RoundingAuditorModel", name := "orderBy", desc := "(II)V" } : Jvm.MethodName)) ∈ lw_all := lw_g (lw_at lw_m8 112 rfl) rfl
theorem q1857 : (Jvm.Cond.code ({ cls := "RoundingAuditorModel", name := "orderBy", desc := "(II)V" } : Jvm.MethodName) prog_27_method_54_code (6 : Nat) (Option.none : Option Jvm.ClassFile.FieldType)) ∈ lw_all := lw_g (lw_at lw_m8 113 rfl) rfl
theorem q1858 : (Jvm.Cond.constantLong "RoundingAuditorModel" (307 : Nat) (5 : Int64)) ∈ lw_all := lw_g (lw_at lw_m8 114 rfl) rfl
theorem q1859 : (Jvm.Cond.methodLink "RoundingAuditorModel" (309 : Nat) ({ cls := "RoundingAuditorModel", name := "goesAhead", desc := "(IIII)Z" } : Jvm.MethodName)) ∈ lw_all := lw_g (lw_at lw_m8 115 rfl) rfl
theorem q1860 : (Jvm.Cond.privateMethod ({ cls := "RoundingAuditorModel", name := "goesAhead", desc := "(IIII)Z" } : Jvm.MethodName)) ∈ lw_tbl := lw_at lw_m8 116 rfl
theorem q1861 : (Jvm.Cond.instanceMethod ({ cls := "RoundingAuditorModel", name := "goesAhead", desc := "(IIII)Z" } : Jvm.MethodName)) ∈ lw_all := lw_g (lw_at lw_m8 117 rfl) rfl
theorem q1862 : (Jvm.Cond.code ({ cls := "RoundingAuditorModel", name := "goesAhead", desc := "(IIII)Z" } : Jvm.MethodName) prog_27_method_53_code (9 : Nat) (Option.some Jvm.ClassFile.FieldType.boolean)) ∈ lw_all := lw_g (lw_at lw_m8 118 rfl) rfl
theorem q1864 : (Jvm.Cond.instanceMethod ({ cls := "RoundingAuditorModel", name := "total", desc := "(I)J" } : Jvm.MethodName)) ∈ lw_all := lw_g (lw_at lw_m8 120 rfl) rfl
theorem q1865 : (Jvm.Cond.selects "RoundingAuditorModel" ({ cls := "RoundingAuditorModel", name := "total", desc := "(I)J" } : Jvm.MethodName) ({ cls := "RoundingAuditorModel", name := "total", desc := "(I)J" } : Jvm.MethodName)) ∈ lw_all := lw_g (lw_at lw_m8 121 rfl) rfl
theorem q1866 : (Jvm.Cond.code ({ cls := "RoundingAuditorModel", name := "total", desc := "(I)J" } : Jvm.MethodName) prog_27_method_67_code (2 : Nat) (Option.some Jvm.ClassFile.FieldType.long)) ∈ lw_all := lw_g (lw_at lw_m8 122 rfl) rfl
theorem q1867 : (Jvm.Cond.methodLink "RoundingAuditorModel" (363 : Nat) ({ cls := "RoundingAuditorModel", name := "noRun", desc := "(I)Z" } : Jvm.MethodName)) ∈ lw_all := lw_g (lw_at lw_m8 123 rfl) rfl
theorem q1868 : (Jvm.Cond.privateMethod ({ cls := "RoundingAuditorModel", name := "noRun", desc := "(I)Z" } : Jvm.MethodName)) ∈ lw_tbl := lw_at lw_m8 124 rfl
theorem q1869 : (Jvm.Cond.instanceMethod ({ cls := "RoundingAuditorModel", name := "noRun", desc := "(I)Z" } : Jvm.MethodName)) ∈ lw_all := lw_g (lw_at lw_m8 125 rfl) rfl
theorem q1870 : (Jvm.Cond.code ({ cls := "RoundingAuditorModel", name := "noRun", desc := "(I)Z" } : Jvm.MethodName) prog_27_method_65_code (2 : Nat) (Option.some Jvm.ClassFile.FieldType.boolean)) ∈ lw_all := lw_g (lw_at lw_m8 126 rfl) rfl
theorem q1871 : (Jvm.Cond.constantLong "RoundingAuditorModel" (367 : Nat) (-101 : Int64)) ∈ lw_all := lw_g (lw_at lw_m8 127 rfl) rfl
theorem q1873 : (Jvm.Cond.instanceMethod ({ cls := "RoundingAuditorModel", name := "steps", desc := "(I)I" } : Jvm.MethodName)) ∈ lw_all := lw_g (lw_at lw_m8 129 rfl) rfl
theorem q1874 : (Jvm.Cond.selects "RoundingAuditorModel" ({ cls := "RoundingAuditorModel", name := "steps", desc := "(I)I" } : Jvm.MethodName) ({ cls := "RoundingAuditorModel", name := "steps", desc := "(I)I" } : Jvm.MethodName)) ∈ lw_all := lw_g (lw_at lw_m8 130 rfl) rfl
theorem q1875 : (Jvm.Cond.code ({ cls := "RoundingAuditorModel", name := "steps", desc := "(I)I" } : Jvm.MethodName) prog_27_method_68_code (2 : Nat) (Option.some Jvm.ClassFile.FieldType.int)) ∈ lw_all := lw_g (lw_at lw_m8 131 rfl) rfl
theorem q1877 : (Jvm.Cond.instanceMethod ({ cls := "RoundingAuditorModel", name := "step", desc := "(III)J" } : Jvm.MethodName)) ∈ lw_all := lw_g (lw_at lw_m8 133 rfl) rfl
theorem q1878 : (Jvm.Cond.selects "RoundingAuditorModel" ({ cls := "RoundingAuditorModel", name := "step", desc := "(III)J" } : Jvm.MethodName) ({ cls := "RoundingAuditorModel", name := "step", desc := "(III)J" } : Jvm.MethodName)) ∈ lw_all := lw_g (lw_at lw_m8 134 rfl) rfl
theorem q1879 : (Jvm.Cond.code ({ cls := "RoundingAuditorModel", name := "step", desc := "(III)J" } : Jvm.MethodName) prog_27_method_70_code (7 : Nat) (Option.some Jvm.ClassFile.FieldType.long)) ∈ lw_all := lw_g (lw_at lw_m8 135 rfl) rfl
theorem q1880 : (Jvm.Cond.methodLink "RoundingAuditorModel" (369 : Nat) ({ cls := "RoundingAuditorModel", name := "noStep", desc := "(II)Z" } : Jvm.MethodName)) ∈ lw_all := lw_g (lw_at lw_m8 136 rfl) rfl
theorem q1881 : (Jvm.Cond.privateMethod ({ cls := "RoundingAuditorModel", name := "noStep", desc := "(II)Z" } : Jvm.MethodName)) ∈ lw_tbl := lw_at lw_m8 137 rfl
theorem q1882 : (Jvm.Cond.instanceMethod ({ cls := "RoundingAuditorModel", name := "noStep", desc := "(II)Z" } : Jvm.MethodName)) ∈ lw_all := lw_g (lw_at lw_m8 138 rfl) rfl
theorem q1883 : (Jvm.Cond.code ({ cls := "RoundingAuditorModel", name := "noStep", desc := "(II)Z" } : Jvm.MethodName) prog_27_method_66_code (3 : Nat) (Option.some Jvm.ClassFile.FieldType.boolean)) ∈ lw_all := lw_g (lw_at lw_m8 139 rfl) rfl
theorem q1884 : (Jvm.Cond.constantLong "RoundingAuditorModel" (372 : Nat) (4 : Int64)) ∈ lw_all := lw_g (lw_at lw_m8 140 rfl) rfl
theorem q1885 : (Jvm.Cond.methodLink "RoundingAuditorModel" (374 : Nat) ({ cls := "RoundingAuditorModel", name := "lossOf", desc := "(III)V" } : Jvm.MethodName)) ∈ lw_all := lw_g (lw_at lw_m8 141 rfl) rfl
theorem q1886 : (Jvm.Cond.privateMethod ({ cls := "RoundingAuditorModel", name := "lossOf", desc := "(III)V" } : Jvm.MethodName)) ∈ lw_tbl := lw_at lw_m8 142 rfl
theorem q1887 : (Jvm.Cond.instanceMethod ({ cls := "RoundingAuditorModel", name := "lossOf", desc := "(III)V" } : Jvm.MethodName)) ∈ lw_all := lw_g (lw_at lw_m8 143 rfl) rfl
theorem q1888 : (Jvm.Cond.code ({ cls := "RoundingAuditorModel", name := "lossOf", desc := "(III)V" } : Jvm.MethodName) prog_27_method_69_code (4 : Nat) (Option.none : Option Jvm.ClassFile.FieldType)) ∈ lw_all := lw_g (lw_at lw_m8 144 rfl) rfl
theorem q1889 : (Jvm.Cond.methodLink "RoundingAuditorModel" (109 : Nat) ({ cls := "RoundingAuditorModel", name := "clearBig", desc := "(I)V" } : Jvm.MethodName)) ∈ lw_all := lw_g (lw_at lw_m8 145 rfl) rfl
theorem q1890 : (Jvm.Cond.privateMethod ({ cls := "RoundingAuditorModel", name := "clearBig", desc := "(I)V" } : Jvm.MethodName)) ∈ lw_tbl := lw_at lw_m8 146 rfl
theorem q1891 : (Jvm.Cond.instanceMethod ({ cls := "RoundingAuditorModel", name := "clearBig", desc := "(I)V" } : Jvm.MethodName)) ∈ lw_all := lw_g (lw_at lw_m8 147 rfl) rfl
theorem q1892 : (Jvm.Cond.code ({ cls := "RoundingAuditorModel", name := "clearBig", desc := "(I)V" } : Jvm.MethodName) prog_27_method_7_code (3 : Nat) (Option.none : Option Jvm.ClassFile.FieldType)) ∈ lw_all := lw_g (lw_at lw_m8 148 rfl) rfl
theorem q1893 : (Jvm.Cond.methodLink "RoundingAuditorModel" (158 : Nat) ({ cls := "RoundingAuditorModel", name := "addNumber", desc := "(ID)V" } : Jvm.MethodName)) ∈ lw_all := lw_g (lw_at lw_m8 149 rfl) rfl
theorem q1894 : (Jvm.Cond.privateMethod ({ cls := "RoundingAuditorModel", name := "addNumber", desc := "(ID)V" } : Jvm.MethodName)) ∈ lw_tbl := lw_at lw_m8 150 rfl
theorem q1895 : (Jvm.Cond.instanceMethod ({ cls := "RoundingAuditorModel", name := "addNumber", desc := "(ID)V" } : Jvm.MethodName)) ∈ lw_all := lw_g (lw_at lw_m8 151 rfl) rfl
theorem q1896 : (Jvm.Cond.code ({ cls := "RoundingAuditorModel", name := "addNumber", desc := "(ID)V" } : Jvm.MethodName) prog_27_method_15_code (4 : Nat) (Option.none : Option Jvm.ClassFile.FieldType)) ∈ lw_all := lw_g (lw_at lw_m8 152 rfl) rfl
theorem q1897 : (Jvm.Cond.methodLink "RoundingAuditorModel" (128 : Nat) ({ cls := "RoundingAuditorModel", name := "writeBig", desc := "(ID)V" } : Jvm.MethodName)) ∈ lw_all := lw_g (lw_at lw_m8 153 rfl) rfl
theorem q1898 : (Jvm.Cond.privateMethod ({ cls := "RoundingAuditorModel", name := "writeBig", desc := "(ID)V" } : Jvm.MethodName)) ∈ lw_tbl := lw_at lw_m8 154 rfl
theorem q1899 : (Jvm.Cond.instanceMethod ({ cls := "RoundingAuditorModel", name := "writeBig", desc := "(ID)V" } : Jvm.MethodName)) ∈ lw_all := lw_g (lw_at lw_m8 155 rfl) rfl
theorem q1900 : (Jvm.Cond.code ({ cls := "RoundingAuditorModel", name := "writeBig", desc := "(ID)V" } : Jvm.MethodName) prog_27_method_14_code (16 : Nat) (Option.none : Option Jvm.ClassFile.FieldType)) ∈ lw_all := lw_g (lw_at lw_m8 156 rfl) rfl
theorem q1901 : (Jvm.Cond.methodLink "RoundingAuditorModel" (125 : Nat) ({ cls := "RoundingAuditorModel", name := "negate", desc := "(I)V" } : Jvm.MethodName)) ∈ lw_all := lw_g (lw_at lw_m8 157 rfl) rfl
theorem q1902 : (Jvm.Cond.privateMethod ({ cls := "RoundingAuditorModel", name := "negate", desc := "(I)V" } : Jvm.MethodName)) ∈ lw_tbl := lw_at lw_m8 158 rfl
theorem q1903 : (Jvm.Cond.instanceMethod ({ cls := "RoundingAuditorModel", name := "negate", desc := "(I)V" } : Jvm.MethodName)) ∈ lw_all := lw_g (lw_at lw_m8 159 rfl) rfl
theorem q1904 : (Jvm.Cond.code ({ cls := "RoundingAuditorModel", name := "negate", desc := "(I)V" } : Jvm.MethodName) prog_27_method_9_code (7 : Nat) (Option.none : Option Jvm.ClassFile.FieldType)) ∈ lw_all := lw_g (lw_at lw_m8 160 rfl) rfl
theorem q1905 : (Jvm.Cond.constantLong "RoundingAuditorModel" (107 : Nat) (4294967295 : Int64)) ∈ lw_all := lw_g (lw_at lw_m8 161 rfl) rfl
theorem q1906 : (Jvm.Cond.methodLink "RoundingAuditorModel" (132 : Nat) ({ cls := "RoundingAuditorModel", name := "addBig", desc := "(II)V" } : Jvm.MethodName)) ∈ lw_all := lw_g (lw_at lw_m8 162 rfl) rfl
theorem q1907 : (Jvm.Cond.privateMethod ({ cls := "RoundingAuditorModel", name := "addBig", desc := "(II)V" } : Jvm.MethodName)) ∈ lw_tbl := lw_at lw_m8 163 rfl
theorem q1908 : (Jvm.Cond.instanceMethod ({ cls := "RoundingAuditorModel", name := "addBig", desc := "(II)V" } : Jvm.MethodName)) ∈ lw_all := lw_g (lw_at lw_m8 164 rfl) rfl
theorem q1909 : (Jvm.Cond.code ({ cls := "RoundingAuditorModel", name := "addBig", desc := "(II)V" } : Jvm.MethodName) prog_27_method_11_code (8 : Nat) (Option.none : Option Jvm.ClassFile.FieldType)) ∈ lw_all := lw_g (lw_at lw_m8 165 rfl) rfl
theorem q1910 : (Jvm.Cond.methodLink "RoundingAuditorModel" (378 : Nat) ({ cls := "RoundingAuditorModel", name := "nearest", desc := "(IZ)D" } : Jvm.MethodName)) ∈ lw_all := lw_g (lw_at lw_m8 166 rfl) rfl
theorem q1911 : (Jvm.Cond.privateMethod ({ cls := "RoundingAuditorModel", name := "nearest", desc := "(IZ)D" } : Jvm.MethodName)) ∈ lw_tbl := lw_at lw_m8 167 rfl
theorem q1912 : (Jvm.Cond.instanceMethod ({ cls := "RoundingAuditorModel", name := "nearest", desc := "(IZ)D" } : Jvm.MethodName)) ∈ lw_all := lw_g (lw_at lw_m8 168 rfl) rfl
theorem q1913 : (Jvm.Cond.code ({ cls := "RoundingAuditorModel", name := "nearest", desc := "(IZ)D" } : Jvm.MethodName) prog_27_method_17_code (11 : Nat) (Option.some Jvm.ClassFile.FieldType.double)) ∈ lw_all := lw_g (lw_at lw_m8 169 rfl) rfl
theorem q1914 : (Jvm.Cond.methodLink "RoundingAuditorModel" (136 : Nat) ({ cls := "RoundingAuditorModel", name := "signOf", desc := "(I)I" } : Jvm.MethodName)) ∈ lw_all := lw_g (lw_at lw_m8 170 rfl) rfl
theorem q1915 : (Jvm.Cond.privateMethod ({ cls := "RoundingAuditorModel", name := "signOf", desc := "(I)I" } : Jvm.MethodName)) ∈ lw_tbl := lw_at lw_m8 171 rfl
theorem q1916 : (Jvm.Cond.instanceMethod ({ cls := "RoundingAuditorModel", name := "signOf", desc := "(I)I" } : Jvm.MethodName)) ∈ lw_all := lw_g (lw_at lw_m8 172 rfl) rfl
theorem q1917 : (Jvm.Cond.code ({ cls := "RoundingAuditorModel", name := "signOf", desc := "(I)I" } : Jvm.MethodName) prog_27_method_10_code (3 : Nat) (Option.some Jvm.ClassFile.FieldType.int)) ∈ lw_all := lw_g (lw_at lw_m8 173 rfl) rfl
theorem q1918 : (Jvm.Cond.methodLink "RoundingAuditorModel" (139 : Nat) ({ cls := "RoundingAuditorModel", name := "copyBig", desc := "(II)V" } : Jvm.MethodName)) ∈ lw_all := lw_g (lw_at lw_m8 174 rfl) rfl
theorem q1919 : (Jvm.Cond.privateMethod ({ cls := "RoundingAuditorModel", name := "copyBig", desc := "(II)V" } : Jvm.MethodName)) ∈ lw_tbl := lw_at lw_m8 175 rfl
theorem q1920 : (Jvm.Cond.instanceMethod ({ cls := "RoundingAuditorModel", name := "copyBig", desc := "(II)V" } : Jvm.MethodName)) ∈ lw_all := lw_g (lw_at lw_m8 176 rfl) rfl
theorem q1921 : (Jvm.Cond.code ({ cls := "RoundingAuditorModel", name := "copyBig", desc := "(II)V" } : Jvm.MethodName) prog_27_method_8_code (4 : Nat) (Option.none : Option Jvm.ClassFile.FieldType)) ∈ lw_all := lw_g (lw_at lw_m8 177 rfl) rfl
theorem q1922 : (Jvm.Cond.methodLink "RoundingAuditorModel" (142 : Nat) ({ cls := "RoundingAuditorModel", name := "hasBit", desc := "(II)Z" } : Jvm.MethodName)) ∈ lw_all := lw_g (lw_at lw_m8 178 rfl) rfl
theorem q1923 : (Jvm.Cond.privateMethod ({ cls := "RoundingAuditorModel", name := "hasBit", desc := "(II)Z" } : Jvm.MethodName)) ∈ lw_tbl := lw_at lw_m8 179 rfl
theorem q1924 : (Jvm.Cond.instanceMethod ({ cls := "RoundingAuditorModel", name := "hasBit", desc := "(II)Z" } : Jvm.MethodName)) ∈ lw_all := lw_g (lw_at lw_m8 180 rfl) rfl
theorem q1925 : (Jvm.Cond.code ({ cls := "RoundingAuditorModel", name := "hasBit", desc := "(II)Z" } : Jvm.MethodName) prog_27_method_16_code (3 : Nat) (Option.some Jvm.ClassFile.FieldType.boolean)) ∈ lw_all := lw_g (lw_at lw_m8 181 rfl) rfl
theorem q1926 : (Jvm.Cond.methodLink "RoundingAuditorModel" (148 : Nat) ({ cls := "RoundingAuditorModel", name := "scaled", desc := "(JI)D" } : Jvm.MethodName)) ∈ lw_all := lw_g (lw_at lw_m8 182 rfl) rfl
theorem q1927 : (Jvm.Cond.static ({ cls := "RoundingAuditorModel", name := "scaled", desc := "(JI)D" } : Jvm.MethodName)) ∈ lw_all := lw_g (lw_at lw_m8 183 rfl) rfl
theorem q1928 : (Jvm.Cond.code ({ cls := "RoundingAuditorModel", name := "scaled", desc := "(JI)D" } : Jvm.MethodName) prog_27_method_18_code (6 : Nat) (Option.some Jvm.ClassFile.FieldType.double)) ∈ lw_all := lw_g (lw_at lw_m8 184 rfl) rfl
theorem q1929 : (Jvm.Cond.constantLong "RoundingAuditorModel" (152 : Nat) (9007199254740992 : Int64)) ∈ lw_all := lw_g (lw_at lw_m8 185 rfl) rfl
theorem q1931 : (Jvm.Cond.instanceMethod ({ cls := "RoundingAuditorModel", name := "story", desc := "(II)I" } : Jvm.MethodName)) ∈ lw_all := lw_g (lw_at lw_m8 187 rfl) rfl
theorem q1932 : (Jvm.Cond.selects "RoundingAuditorModel" ({ cls := "RoundingAuditorModel", name := "story", desc := "(II)I" } : Jvm.MethodName) ({ cls := "RoundingAuditorModel", name := "story", desc := "(II)I" } : Jvm.MethodName)) ∈ lw_all := lw_g (lw_at lw_m8 188 rfl) rfl
theorem q1933 : (Jvm.Cond.code ({ cls := "RoundingAuditorModel", name := "story", desc := "(II)I" } : Jvm.MethodName) prog_27_method_71_code (12 : Nat) (Option.some Jvm.ClassFile.FieldType.int)) ∈ lw_all := lw_g (lw_at lw_m8 189 rfl) rfl
theorem q1934 : (Jvm.Cond.constantDouble "RoundingAuditorModel" (381 : Nat) (4611686018427387904 : UInt64)) ∈ lw_all := lw_g (lw_at lw_m8 190 rfl) rfl
theorem q1936 : (Jvm.Cond.instanceMethod ({ cls := "RoundingAuditorModel", name := "worst", desc := "(I)I" } : Jvm.MethodName)) ∈ lw_all := lw_g (lw_at lw_m8 192 rfl) rfl
theorem q1937 : (Jvm.Cond.selects "RoundingAuditorModel" ({ cls := "RoundingAuditorModel", name := "worst", desc := "(I)I" } : Jvm.MethodName) ({ cls := "RoundingAuditorModel", name := "worst", desc := "(I)I" } : Jvm.MethodName)) ∈ lw_all := lw_g (lw_at lw_m8 193 rfl) rfl
theorem q1938 : (Jvm.Cond.code ({ cls := "RoundingAuditorModel", name := "worst", desc := "(I)I" } : Jvm.MethodName) prog_27_method_72_code (4 : Nat) (Option.some Jvm.ClassFile.FieldType.int)) ∈ lw_all := lw_g (lw_at lw_m8 194 rfl) rfl
theorem q1939 : (Jvm.Cond.methodLink "RoundingAuditorModel" (383 : Nat) ({ cls := "RoundingAuditorModel", name := "compareBig", desc := "(II)I" } : Jvm.MethodName)) ∈ lw_all := lw_g (lw_at lw_m8 195 rfl) rfl
theorem q1940 : (Jvm.Cond.privateMethod ({ cls := "RoundingAuditorModel", name := "compareBig", desc := "(II)I" } : Jvm.MethodName)) ∈ lw_tbl := lw_at lw_m8 196 rfl
theorem q1941 : (Jvm.Cond.instanceMethod ({ cls := "RoundingAuditorModel", name := "compareBig", desc := "(II)I" } : Jvm.MethodName)) ∈ lw_all := lw_g (lw_at lw_m8 197 rfl) rfl
theorem q1942 : (Jvm.Cond.code ({ cls := "RoundingAuditorModel", name := "compareBig", desc := "(II)I" } : Jvm.MethodName) prog_27_method_13_code (8 : Nat) (Option.some Jvm.ClassFile.FieldType.int)) ∈ lw_all := lw_g (lw_at lw_m8 198 rfl) rfl
theorem q1944 : (Jvm.Cond.instanceMethod ({ cls := "RoundingAuditorModel", name := "off", desc := "(II)I" } : Jvm.MethodName)) ∈ lw_all := lw_g (lw_at lw_m8 200 rfl) rfl
theorem q1945 : (Jvm.Cond.selects "RoundingAuditorModel" ({ cls := "RoundingAuditorModel", name := "off", desc := "(II)I" } : Jvm.MethodName) ({ cls := "RoundingAuditorModel", name := "off", desc := "(II)I" } : Jvm.MethodName)) ∈ lw_all := lw_g (lw_at lw_m8 201 rfl) rfl
theorem q1946 : (Jvm.Cond.code ({ cls := "RoundingAuditorModel", name := "off", desc := "(II)I" } : Jvm.MethodName) prog_27_method_74_code (4 : Nat) (Option.some Jvm.ClassFile.FieldType.int)) ∈ lw_all := lw_g (lw_at lw_m8 202 rfl) rfl
theorem q1947 : (Jvm.Cond.methodLink "RoundingAuditorModel" (387 : Nat) ({ cls := "RoundingAuditorModel", name := "one", desc := "(I)V" } : Jvm.MethodName)) ∈ lw_all := lw_g (lw_at lw_m8 203 rfl) rfl
theorem q1948 : (Jvm.Cond.privateMethod ({ cls := "RoundingAuditorModel", name := "one", desc := "(I)V" } : Jvm.MethodName)) ∈ lw_tbl := lw_at lw_m8 204 rfl
theorem q1949 : (Jvm.Cond.instanceMethod ({ cls := "RoundingAuditorModel", name := "one", desc := "(I)V" } : Jvm.MethodName)) ∈ lw_all := lw_g (lw_at lw_m8 205 rfl) rfl
theorem q1950 : (Jvm.Cond.code ({ cls := "RoundingAuditorModel", name := "one", desc := "(I)V" } : Jvm.MethodName) prog_27_method_73_code (2 : Nat) (Option.none : Option Jvm.ClassFile.FieldType)) ∈ lw_all := lw_g (lw_at lw_m8 206 rfl) rfl
theorem q1951 : (Jvm.Cond.constant "RoundingAuditorModel" (386 : Nat) (262144 : Int32)) ∈ lw_all := lw_g (lw_at lw_m8 207 rfl) rfl
theorem q1952 : (Jvm.Cond.methodLink "RoundingAuditorModel" (390 : Nat) ({ cls := "RoundingAuditorModel", name := "timesBig", desc := "(IJ)V" } : Jvm.MethodName)) ∈ lw_all := lw_g (lw_at lw_m8 208 rfl) rfl
theorem q1953 : (Jvm.Cond.privateMethod ({ cls := "RoundingAuditorModel", name := "timesBig", desc := "(IJ)V" } : Jvm.MethodName)) ∈ lw_tbl := lw_at lw_m8 209 rfl
theorem q1954 : (Jvm.Cond.instanceMethod ({ cls := "RoundingAuditorModel", name := "timesBig", desc := "(IJ)V" } : Jvm.MethodName)) ∈ lw_all := lw_g (lw_at lw_m8 210 rfl) rfl
theorem q1955 : (Jvm.Cond.code ({ cls := "RoundingAuditorModel", name := "timesBig", desc := "(IJ)V" } : Jvm.MethodName) prog_27_method_12_code (9 : Nat) (Option.none : Option Jvm.ClassFile.FieldType)) ∈ lw_all := lw_g (lw_at lw_m8 211 rfl) rfl
theorem q1957 : (Jvm.Cond.instanceMethod ({ cls := "RoundingAuditorModel", name := "parts", desc := "(II)I" } : Jvm.MethodName)) ∈ lw_all := lw_g (lw_at lw_m8 213 rfl) rfl
theorem q1958 : (Jvm.Cond.selects "RoundingAuditorModel" ({ cls := "RoundingAuditorModel", name := "parts", desc := "(II)I" } : Jvm.MethodName) ({ cls := "RoundingAuditorModel", name := "parts", desc := "(II)I" } : Jvm.MethodName)) ∈ lw_all := lw_g (lw_at lw_m8 214 rfl) rfl
theorem q1959 : (Jvm.Cond.code ({ cls := "RoundingAuditorModel", name := "parts", desc := "(II)I" } : Jvm.MethodName) prog_27_method_75_code (4 : Nat) (Option.some Jvm.ClassFile.FieldType.int)) ∈ lw_all := lw_g (lw_at lw_m8 215 rfl) rfl
theorem q1961 : (Jvm.Cond.instanceMethod ({ cls := "RoundingAuditorModel", name := "clear", desc := "()I" } : Jvm.MethodName)) ∈ lw_all := lw_g (lw_at lw_m8 217 rfl) rfl
theorem q1962 : (Jvm.Cond.selects "RoundingAuditorModel" ({ cls := "RoundingAuditorModel", name := "clear", desc := "()I" } : Jvm.MethodName) ({ cls := "RoundingAuditorModel", name := "clear", desc := "()I" } : Jvm.MethodName)) ∈ lw_all := lw_g (lw_at lw_m8 218 rfl) rfl
theorem q1963 : (Jvm.Cond.code ({ cls := "RoundingAuditorModel", name := "clear", desc := "()I" } : Jvm.MethodName) prog_27_method_76_code (2 : Nat) (Option.some Jvm.ClassFile.FieldType.int)) ∈ lw_all := lw_g (lw_at lw_m8 219 rfl) rfl
theorem q1965 : (Jvm.Cond.instanceMethod ({ cls := "RoundingAuditorModel", name := "compare", desc := "(IJ)I" } : Jvm.MethodName)) ∈ lw_all := lw_g (lw_at lw_m8 221 rfl) rfl
theorem q1966 : (Jvm.Cond.selects "RoundingAuditorModel" ({ cls := "RoundingAuditorModel", name := "compare", desc := "(IJ)I" } : Jvm.MethodName) ({ cls := "RoundingAuditorModel", name := "compare", desc := "(IJ)I" } : Jvm.MethodName)) ∈ lw_all := lw_g (lw_at lw_m8 222 rfl) rfl
theorem q1967 : (Jvm.Cond.code ({ cls := "RoundingAuditorModel", name := "compare", desc := "(IJ)I" } : Jvm.MethodName) prog_27_method_77_code (6 : Nat) (Option.some Jvm.ClassFile.FieldType.int)) ∈ lw_all := lw_g (lw_at lw_m8 223 rfl) rfl
theorem q1968 : (Jvm.Cond.constantDouble "RoundingAuditorModel" (394 : Nat) (5102578377810771968 : UInt64)) ∈ lw_all := lw_g (lw_at lw_m8 224 rfl) rfl
theorem q1969 : (Jvm.Cond.constantDouble "RoundingAuditorModel" (396 : Nat) (14325950414665547776 : UInt64)) ∈ lw_all := lw_g (lw_at lw_m8 225 rfl) rfl
theorem q1970 : (Jvm.Cond.methodLink "RoundingAuditorModel" (398 : Nat) ({ cls := "RoundingAuditorModel", name := "sumLedger", desc := "(II)V" } : Jvm.MethodName)) ∈ lw_all := lw_g (lw_at lw_m8 226 rfl) rfl
theorem q1971 : (Jvm.Cond.privateMethod ({ cls := "RoundingAuditorModel", name := "sumLedger", desc := "(II)V" } : Jvm.MethodName)) ∈ lw_tbl := lw_at lw_m8 227 rfl
theorem q1972 : (Jvm.Cond.instanceMethod ({ cls := "RoundingAuditorModel", name := "sumLedger", desc := "(II)V" } : Jvm.MethodName)) ∈ lw_all := lw_g (lw_at lw_m8 228 rfl) rfl
theorem q1973 : (Jvm.Cond.code ({ cls := "RoundingAuditorModel", name := "sumLedger", desc := "(II)V" } : Jvm.MethodName) prog_27_method_19_code (4 : Nat) (Option.none : Option Jvm.ClassFile.FieldType)) ∈ lw_all := lw_g (lw_at lw_m8 229 rfl) rfl
theorem q1975 : (Jvm.Cond.instanceMethod ({ cls := "RoundingAuditorModel", name := "rounded", desc := "(I)J" } : Jvm.MethodName)) ∈ lw_all := lw_g (lw_at lw_m8 231 rfl) rfl
theorem q1976 : (Jvm.Cond.selects "RoundingAuditorModel" ({ cls := "RoundingAuditorModel", name := "rounded", desc := "(I)J" } : Jvm.MethodName) ({ cls := "RoundingAuditorModel", name := "rounded", desc := "(I)J" } : Jvm.MethodName)) ∈ lw_all := lw_g (lw_at lw_m8 232 rfl) rfl
theorem q1977 : (Jvm.Cond.code ({ cls := "RoundingAuditorModel", name := "rounded", desc := "(I)J" } : Jvm.MethodName) prog_27_method_79_code (2 : Nat) (Option.some Jvm.ClassFile.FieldType.long)) ∈ lw_all := lw_g (lw_at lw_m8 233 rfl) rfl
theorem q1978 : (Jvm.Cond.methodLink "RoundingAuditorModel" (401 : Nat) ({ cls := "RoundingAuditorModel", name := "exactOf", desc := "(I)D" } : Jvm.MethodName)) ∈ lw_all := lw_g (lw_at lw_m8 234 rfl) rfl
theorem q1979 : (Jvm.Cond.privateMethod ({ cls := "RoundingAuditorModel", name := "exactOf", desc := "(I)D" } : Jvm.MethodName)) ∈ lw_tbl := lw_at lw_m8 235 rfl
theorem q1980 : (Jvm.Cond.instanceMethod ({ cls := "RoundingAuditorModel", name := "exactOf", desc := "(I)D" } : Jvm.MethodName)) ∈ lw_all := lw_g (lw_at lw_m8 236 rfl) rfl
theorem q1981 : (Jvm.Cond.code ({ cls := "RoundingAuditorModel", name := "exactOf", desc := "(I)D" } : Jvm.MethodName) prog_27_method_78_code (2 : Nat) (Option.some Jvm.ClassFile.FieldType.double)) ∈ lw_all := lw_g (lw_at lw_m8 237 rfl) rfl
theorem q1983 : (Jvm.Cond.instanceMethod ({ cls := "RoundingAuditorModel", name := "word", desc := "(II)I" } : Jvm.MethodName)) ∈ lw_all := lw_g (lw_at lw_m8 239 rfl) rfl
theorem q1984 : (Jvm.Cond.selects "RoundingAuditorModel" ({ cls := "RoundingAuditorModel", name := "word", desc := "(II)I" } : Jvm.MethodName) ({ cls := "RoundingAuditorModel", name := "word", desc := "(II)I" } : Jvm.MethodName)) ∈ lw_all := lw_g (lw_at lw_m9 0 rfl) rfl
theorem q1985 : (Jvm.Cond.code ({ cls := "RoundingAuditorModel", name := "word", desc := "(II)I" } : Jvm.MethodName) prog_27_method_80_code (3 : Nat) (Option.some Jvm.ClassFile.FieldType.int)) ∈ lw_all := lw_g (lw_at lw_m9 1 rfl) rfl
theorem q1986 : (Jvm.Cond.constantLong "RoundingAuditorModel" (404 : Nat) (39 : Int64)) ∈ lw_all := lw_g (lw_at lw_m9 2 rfl) rfl
theorem q1988 : (Jvm.Cond.instanceMethod ({ cls := "RoundingAuditorModel", name := "extreme", desc := "(IZ)J" } : Jvm.MethodName)) ∈ lw_all := lw_g (lw_at lw_m9 4 rfl) rfl
theorem q1989 : (Jvm.Cond.selects "RoundingAuditorModel" ({ cls := "RoundingAuditorModel", name := "extreme", desc := "(IZ)J" } : Jvm.MethodName) ({ cls := "RoundingAuditorModel", name := "extreme", desc := "(IZ)J" } : Jvm.MethodName)) ∈ lw_all := lw_g (lw_at lw_m9 5 rfl) rfl
theorem q1990 : (Jvm.Cond.code ({ cls := "RoundingAuditorModel", name := "extreme", desc := "(IZ)J" } : Jvm.MethodName) prog_27_method_85_code (7 : Nat) (Option.some Jvm.ClassFile.FieldType.long)) ∈ lw_all := lw_g (lw_at lw_m9 6 rfl) rfl
theorem q1991 : (Jvm.Cond.constantLong "RoundingAuditorModel" (409 : Nat) (-104 : Int64)) ∈ lw_all := lw_g (lw_at lw_m9 7 rfl) rfl
theorem q1992 : (Jvm.Cond.methodLink "RoundingAuditorModel" (411 : Nat) ({ cls := "RoundingAuditorModel", name := "firstOrder", desc := "(I)V" } : Jvm.MethodName)) ∈ lw_all := lw_g (lw_at lw_m9 8 rfl) rfl
theorem q1993 : (Jvm.Cond.privateMethod ({ cls := "RoundingAuditorModel", name := "firstOrder", desc := "(I)V" } : Jvm.MethodName)) ∈ lw_tbl := lw_at lw_m9 9 rfl
theorem q1994 : (Jvm.Cond.instanceMethod ({ cls := "RoundingAuditorModel", name := "firstOrder", desc := "(I)V" } : Jvm.MethodName)) ∈ lw_all := lw_g (lw_at lw_m9 10 rfl) rfl
theorem q1995 : (Jvm.Cond.code ({ cls := "RoundingAuditorModel", name := "firstOrder", desc := "(I)V" } : Jvm.MethodName) prog_27_method_84_code (3 : Nat) (Option.none : Option Jvm.ClassFile.FieldType)) ∈ lw_all := lw_g (lw_at lw_m9 11 rfl) rfl
theorem q1996 : (Jvm.Cond.methodLink "RoundingAuditorModel" (414 : Nat) ({ cls := "RoundingAuditorModel", name := "ofOrder", desc := "(II)D" } : Jvm.MethodName)) ∈ lw_all := lw_g (lw_at lw_m9 12 rfl) rfl
theorem q1997 : (Jvm.Cond.privateMethod ({ cls := "RoundingAuditorModel", name := "ofOrder", desc := "(II)D" } : Jvm.MethodName)) ∈ lw_tbl := lw_at lw_m9 13 rfl
theorem q1998 : (Jvm.Cond.instanceMethod ({ cls := "RoundingAuditorModel", name := "ofOrder", desc := "(II)D" } : Jvm.MethodName)) ∈ lw_all := lw_g (lw_at lw_m9 14 rfl) rfl
theorem q1999 : (Jvm.Cond.code ({ cls := "RoundingAuditorModel", name := "ofOrder", desc := "(II)D" } : Jvm.MethodName) prog_27_method_83_code (6 : Nat) (Option.some Jvm.ClassFile.FieldType.double)) ∈ lw_all := lw_g (lw_at lw_m9 15 rfl) rfl
theorem q2000 : (Jvm.Cond.methodLink "RoundingAuditorModel" (417 : Nat) ({ cls := "RoundingAuditorModel", name := "nextOrder", desc := "(I)Z" } : Jvm.MethodName)) ∈ lw_all := lw_g (lw_at lw_m9 16 rfl) rfl
theorem q2001 : (Jvm.Cond.privateMethod ({ cls := "RoundingAuditorModel", name := "nextOrder", desc := "(I)Z" } : Jvm.MethodName)) ∈ lw_tbl := lw_at lw_m9 17 rfl
theorem q2002 : (Jvm.Cond.instanceMethod ({ cls := "RoundingAuditorModel", name := "nextOrder", desc := "(I)Z" } : Jvm.MethodName)) ∈ lw_all := lw_g (lw_at lw_m9 18 rfl) rfl
theorem q2003 : (Jvm.Cond.code ({ cls := "RoundingAuditorModel", name := "nextOrder", desc := "(I)Z" } : Jvm.MethodName) prog_27_method_81_code (6 : Nat) (Option.some Jvm.ClassFile.FieldType.boolean)) ∈ lw_all := lw_g (lw_at lw_m9 19 rfl) rfl
theorem q2004 : (Jvm.Cond.methodLink "RoundingAuditorModel" (406 : Nat) ({ cls := "RoundingAuditorModel", name := "swap", desc := "(II)V" } : Jvm.MethodName)) ∈ lw_all := lw_g (lw_at lw_m9 20 rfl) rfl
theorem q2005 : (Jvm.Cond.privateMethod ({ cls := "RoundingAuditorModel", name := "swap", desc := "(II)V" } : Jvm.MethodName)) ∈ lw_tbl := lw_at lw_m9 21 rfl
theorem q2006 : (Jvm.Cond.instanceMethod ({ cls := "RoundingAuditorModel", name := "swap", desc := "(II)V" } : Jvm.MethodName)) ∈ lw_all := lw_g (lw_at lw_m9 22 rfl) rfl
theorem q2007 : (Jvm.Cond.code ({ cls := "RoundingAuditorModel", name := "swap", desc := "(II)V" } : Jvm.MethodName) prog_27_method_82_code (4 : Nat) (Option.none : Option Jvm.ClassFile.FieldType)) ∈ lw_all := lw_g (lw_at lw_m9 23 rfl) rfl
theorem q2009 : (Jvm.Cond.instanceMethod ({ cls := "RoundingAuditorModel", name := "reach", desc := "(I)I" } : Jvm.MethodName)) ∈ lw_all := lw_g (lw_at lw_m9 25 rfl) rfl
theorem q2010 : (Jvm.Cond.selects "RoundingAuditorModel" ({ cls := "RoundingAuditorModel", name := "reach", desc := "(I)I" } : Jvm.MethodName) ({ cls := "RoundingAuditorModel", name := "reach", desc := "(I)I" } : Jvm.MethodName)) ∈ lw_all := lw_g (lw_at lw_m9 26 rfl) rfl
theorem q2011 : (Jvm.Cond.code ({ cls := "RoundingAuditorModel", name := "reach", desc := "(I)I" } : Jvm.MethodName) prog_27_method_86_code (5 : Nat) (Option.some Jvm.ClassFile.FieldType.int)) ∈ lw_all := lw_g (lw_at lw_m9 27 rfl) rfl
theorem q2013 : (Jvm.Cond.instanceMethod ({ cls := "RoundingAuditorModel", name := "cure", desc := "(I)I" } : Jvm.MethodName)) ∈ lw_all := lw_g (lw_at lw_m9 29 rfl) rfl
theorem q2014 : (Jvm.Cond.selects "RoundingAuditorModel" ({ cls := "RoundingAuditorModel", name := "cure", desc := "(I)I" } : Jvm.MethodName) ({ cls := "RoundingAuditorModel", name := "cure", desc := "(I)I" } : Jvm.MethodName)) ∈ lw_all := lw_g (lw_at lw_m9 30 rfl) rfl
theorem q2015 : (Jvm.Cond.code ({ cls := "RoundingAuditorModel", name := "cure", desc := "(I)I" } : Jvm.MethodName) prog_27_method_90_code (7 : Nat) (Option.some Jvm.ClassFile.FieldType.int)) ∈ lw_all := lw_g (lw_at lw_m9 31 rfl) rfl
theorem q2016 : (Jvm.Cond.methodLink "RoundingAuditorModel" (420 : Nat) ({ cls := "RoundingAuditorModel", name := "bits", desc := "(I)I" } : Jvm.MethodName)) ∈ lw_all := lw_g (lw_at lw_m9 32 rfl) rfl
theorem q2017 : (Jvm.Cond.static ({ cls := "RoundingAuditorModel", name := "bits", desc := "(I)I" } : Jvm.MethodName)) ∈ lw_all := lw_g (lw_at lw_m9 33 rfl) rfl
theorem q2018 : (Jvm.Cond.code ({ cls := "RoundingAuditorModel", name := "bits", desc := "(I)I" } : Jvm.MethodName) prog_27_method_87_code (3 : Nat) (Option.some Jvm.ClassFile.FieldType.int)) ∈ lw_all := lw_g (lw_at lw_m9 34 rfl) rfl
theorem q2019 : (Jvm.Cond.methodLink "RoundingAuditorModel" (423 : Nat) ({ cls := "RoundingAuditorModel", name := "isAhead", desc := "(II)Z" } : Jvm.MethodName)) ∈ lw_all := lw_g (lw_at lw_m9 35 rfl) rfl
theorem q2020 : (Jvm.Cond.static ({ cls := "RoundingAuditorModel", name := "isAhead", desc := "(II)Z" } : Jvm.MethodName)) ∈ lw_all := lw_g (lw_at lw_m9 36 rfl) rfl
theorem q2021 : (Jvm.Cond.code ({ cls := "RoundingAuditorModel", name := "isAhead", desc := "(II)Z" } : Jvm.MethodName) prog_27_method_88_code (4 : Nat) (Option.some Jvm.ClassFile.FieldType.boolean)) ∈ lw_all := lw_g (lw_at lw_m9 37 rfl) rfl
theorem q2022 : (Jvm.Cond.methodLink "RoundingAuditorModel" (426 : Nat) ({ cls := "RoundingAuditorModel", name := "cures", desc := "(IID)Z" } : Jvm.MethodName)) ∈ lw_all := lw_g (lw_at lw_m9 38 rfl) rfl
theorem q2023 : (Jvm.Cond.privateMethod ({ cls := "RoundingAuditorModel", name := "cures", desc := "(IID)Z" } : Jvm.MethodName)) ∈ lw_tbl := lw_at lw_m9 39 rfl
theorem q2024 : (Jvm.Cond.instanceMethod ({ cls := "RoundingAuditorModel", name := "cures", desc := "(IID)Z" } : Jvm.MethodName)) ∈ lw_all := lw_g (lw_at lw_m9 40 rfl) rfl
theorem q2025 : (Jvm.Cond.code ({ cls := "RoundingAuditorModel", name := "cures", desc := "(IID)Z" } : Jvm.MethodName) prog_27_method_89_code (8 : Nat) (Option.some Jvm.ClassFile.FieldType.boolean)) ∈ lw_all := lw_g (lw_at lw_m9 41 rfl) rfl
theorem q2027 : (Jvm.Cond.instanceMethod ({ cls := "RoundingAuditorModel", name := "cured", desc := "(I)I" } : Jvm.MethodName)) ∈ lw_all := lw_g (lw_at lw_m9 43 rfl) rfl
theorem q2028 : (Jvm.Cond.selects "RoundingAuditorModel" ({ cls := "RoundingAuditorModel", name := "cured", desc := "(I)I" } : Jvm.MethodName) ({ cls := "RoundingAuditorModel", name := "cured", desc := "(I)I" } : Jvm.MethodName)) ∈ lw_all := lw_g (lw_at lw_m9 44 rfl) rfl
theorem q2029 : (Jvm.Cond.code ({ cls := "RoundingAuditorModel", name := "cured", desc := "(I)I" } : Jvm.MethodName) prog_27_method_91_code (2 : Nat) (Option.some Jvm.ClassFile.FieldType.int)) ∈ lw_all := lw_g (lw_at lw_m9 45 rfl) rfl
theorem q2031 : (Jvm.Cond.instanceMethod ({ cls := "RoundingAuditorModel", name := "statement", desc := "(IJI)I" } : Jvm.MethodName)) ∈ lw_all := lw_g (lw_at lw_m9 47 rfl) rfl
theorem q2032 : (Jvm.Cond.selects "RoundingAuditorModel" ({ cls := "RoundingAuditorModel", name := "statement", desc := "(IJI)I" } : Jvm.MethodName) ({ cls := "RoundingAuditorModel", name := "statement", desc := "(IJI)I" } : Jvm.MethodName)) ∈ lw_all := lw_g (lw_at lw_m9 48 rfl) rfl
theorem q2033 : (Jvm.Cond.code ({ cls := "RoundingAuditorModel", name := "statement", desc := "(IJI)I" } : Jvm.MethodName) prog_27_method_92_code (9 : Nat) (Option.some Jvm.ClassFile.FieldType.int)) ∈ lw_all := lw_g (lw_at lw_m9 49 rfl) rfl
theorem q2035 : (Jvm.Cond.instanceMethod ({ cls := "RoundingAuditorModel", name := "split", desc := "(II)I" } : Jvm.MethodName)) ∈ lw_all := lw_g (lw_at lw_m9 51 rfl) rfl
theorem q2036 : (Jvm.Cond.selects "RoundingAuditorModel" ({ cls := "RoundingAuditorModel", name := "split", desc := "(II)I" } : Jvm.MethodName) ({ cls := "RoundingAuditorModel", name := "split", desc := "(II)I" } : Jvm.MethodName)) ∈ lw_all := lw_g (lw_at lw_m9 52 rfl) rfl
theorem q2037 : (Jvm.Cond.code ({ cls := "RoundingAuditorModel", name := "split", desc := "(II)I" } : Jvm.MethodName) prog_27_method_93_code (9 : Nat) (Option.some Jvm.ClassFile.FieldType.int)) ∈ lw_all := lw_g (lw_at lw_m9 53 rfl) rfl
theorem q2038 : (Jvm.Cond.constantLong "RoundingAuditorModel" (430 : Nat) (1000000 : Int64)) ∈ lw_all := lw_g (lw_at lw_m9 54 rfl) rfl
theorem q2040 : (Jvm.Cond.instanceMethod ({ cls := "RoundingAuditorModel", name := "share", desc := "(I)I" } : Jvm.MethodName)) ∈ lw_all := lw_g (lw_at lw_m9 56 rfl) rfl
theorem q2041 : (Jvm.Cond.selects "RoundingAuditorModel" ({ cls := "RoundingAuditorModel", name := "share", desc := "(I)I" } : Jvm.MethodName) ({ cls := "RoundingAuditorModel", name := "share", desc := "(I)I" } : Jvm.MethodName)) ∈ lw_all := lw_g (lw_at lw_m9 57 rfl) rfl
theorem q2042 : (Jvm.Cond.code ({ cls := "RoundingAuditorModel", name := "share", desc := "(I)I" } : Jvm.MethodName) prog_27_method_94_code (2 : Nat) (Option.some Jvm.ClassFile.FieldType.int)) ∈ lw_all := lw_g (lw_at lw_m9 58 rfl) rfl
theorem q2044 : (Jvm.Cond.instanceMethod ({ cls := "RoundingAuditorModel", name := "sign", desc := "(III)I" } : Jvm.MethodName)) ∈ lw_all := lw_g (lw_at lw_m9 60 rfl) rfl
theorem q2045 : (Jvm.Cond.selects "RoundingAuditorModel" ({ cls := "RoundingAuditorModel", name := "sign", desc := "(III)I" } : Jvm.MethodName) ({ cls := "RoundingAuditorModel", name := "sign", desc := "(III)I" } : Jvm.MethodName)) ∈ lw_all := lw_g (lw_at lw_m9 61 rfl) rfl
theorem q2046 : (Jvm.Cond.code ({ cls := "RoundingAuditorModel", name := "sign", desc := "(III)I" } : Jvm.MethodName) prog_27_method_95_code (5 : Nat) (Option.some Jvm.ClassFile.FieldType.int)) ∈ lw_all := lw_g (lw_at lw_m9 62 rfl) rfl
theorem q2058 : (Jvm.Cond.castable "RoundingAuditorModel" "java/lang/Object") ∈ lw_tbl := lw_at lw_m9 74 rfl
theorem in_X3 : ∀ w ∈ wsX30, w ∈ lw_all := lw_in wsX30 [1568, 1570, 1572, 1574, 1576, 1578, 1580, 1582, 1584, 1586, 1588, 1590, 1592, 1594, 1596, 1598, 1600, 1602, 1604, 1606, 1608, 1610, 1612, 1614, 1616, 1618, 1620, 1622, 1624, 1626, 1628, 1630, 1632, 1634, 1636, 1638] (by decide +kernel) (by decide +kernel)
