/-! RoundingAuditorLaw -/
set_option maxRecDepth 100000
def RX0 : String := "RoundingAuditorLaw"
abbrev cX0_ledger : ByteArray := method_3_code
def yX0_ledger : MethodName := ⟨RX0, "ledger", "(LRoundingAuditor;IZI[J)I"⟩
def dkwX0_ledger_1 : List UInt8 := [172]
abbrev dktX0_ledger_1 : List UInt8 := dkwX0_ledger_1 ++ []
def dkwX0_ledger_0 : List UInt8 := [25, 4, 3, 42, 27, 28, 29, 182, 0, 7, 133, 80, 167, 0, 11, 58, 5, 4, 172, 58, 5, 5, 172, 3]
abbrev dktX0_ledger_0 : List UInt8 := dkwX0_ledger_0 ++ dktX0_ledger_1
theorem dksX0_ledger_0 : cX0_ledger.data.toList.drop 0 = dktX0_ledger_0 := by decide +kernel
theorem dksX0_ledger_1 : cX0_ledger.data.toList.drop 24 = dktX0_ledger_1 := dk_seg dksX0_ledger_0 24 rfl rfl
theorem dX0_ledger_0 : decode cX0_ledger 0 = .ok (.aload 4, 2) := dk_25 4 (dk_at dksX0_ledger_0 0 rfl rfl)
theorem dX0_ledger_2 : decode cX0_ledger 2 = .ok (.iconst 0, 1) := dk_3 (dk_at dksX0_ledger_0 2 rfl rfl)
theorem dX0_ledger_3 : decode cX0_ledger 3 = .ok (.aload_n 0, 1) := dk_42 (dk_at dksX0_ledger_0 3 rfl rfl)
theorem dX0_ledger_4 : decode cX0_ledger 4 = .ok (.iload_n 1, 1) := dk_27 (dk_at dksX0_ledger_0 4 rfl rfl)
theorem dX0_ledger_5 : decode cX0_ledger 5 = .ok (.iload_n 2, 1) := dk_28 (dk_at dksX0_ledger_0 5 rfl rfl)
theorem dX0_ledger_6 : decode cX0_ledger 6 = .ok (.iload_n 3, 1) := dk_29 (dk_at dksX0_ledger_0 6 rfl rfl)
theorem dX0_ledger_7 : decode cX0_ledger 7 = .ok (.invokevirtual 7, 3) := dk_182 0 7 (dk_at dksX0_ledger_0 7 rfl rfl)
theorem dX0_ledger_10 : decode cX0_ledger 10 = .ok (.i2l, 1) := dk_133 (dk_at dksX0_ledger_0 10 rfl rfl)
theorem dX0_ledger_11 : decode cX0_ledger 11 = .ok (.lastore, 1) := dk_80 (dk_at dksX0_ledger_0 11 rfl rfl)
theorem dX0_ledger_12 : decode cX0_ledger 12 = .ok (.goto 11, 3) := dk_167 0 11 (dk_at dksX0_ledger_0 12 rfl rfl)
theorem dX0_ledger_15 : decode cX0_ledger 15 = .ok (.astore 5, 2) := dk_58 5 (dk_at dksX0_ledger_0 15 rfl rfl)
theorem dX0_ledger_17 : decode cX0_ledger 17 = .ok (.iconst 1, 1) := dk_4 (dk_at dksX0_ledger_0 17 rfl rfl)
theorem dX0_ledger_18 : decode cX0_ledger 18 = .ok (.ireturn, 1) := dk_172 (dk_at dksX0_ledger_0 18 rfl rfl)
theorem dX0_ledger_19 : decode cX0_ledger 19 = .ok (.astore 5, 2) := dk_58 5 (dk_at dksX0_ledger_0 19 rfl rfl)
theorem dX0_ledger_21 : decode cX0_ledger 21 = .ok (.iconst 2, 1) := dk_5 (dk_at dksX0_ledger_0 21 rfl rfl)
theorem dX0_ledger_22 : decode cX0_ledger 22 = .ok (.ireturn, 1) := dk_172 (dk_at dksX0_ledger_0 22 rfl rfl)
theorem dX0_ledger_23 : decode cX0_ledger 23 = .ok (.iconst 0, 1) := dk_3 (dk_at dksX0_ledger_0 23 rfl rfl)
theorem dX0_ledger_24 : decode cX0_ledger 24 = .ok (.ireturn, 1) := dk_172 (dk_at dksX0_ledger_1 0 rfl rfl)
abbrev cX0_set : ByteArray := method_4_code
def yX0_set : MethodName := ⟨RX0, "set", "(LRoundingAuditor;IIJ[J)I"⟩
def dkwX0_set_1 : List UInt8 := [172]
abbrev dktX0_set_1 : List UInt8 := dkwX0_set_1 ++ []
def dkwX0_set_0 : List UInt8 := [25, 5, 3, 42, 27, 28, 33, 182, 0, 17, 133, 80, 167, 0, 11, 58, 6, 4, 172, 58, 6, 5, 172, 3]
abbrev dktX0_set_0 : List UInt8 := dkwX0_set_0 ++ dktX0_set_1
theorem dksX0_set_0 : cX0_set.data.toList.drop 0 = dktX0_set_0 := by decide +kernel
theorem dksX0_set_1 : cX0_set.data.toList.drop 24 = dktX0_set_1 := dk_seg dksX0_set_0 24 rfl rfl
theorem dX0_set_0 : decode cX0_set 0 = .ok (.aload 5, 2) := dk_25 5 (dk_at dksX0_set_0 0 rfl rfl)
theorem dX0_set_2 : decode cX0_set 2 = .ok (.iconst 0, 1) := dk_3 (dk_at dksX0_set_0 2 rfl rfl)
theorem dX0_set_3 : decode cX0_set 3 = .ok (.aload_n 0, 1) := dk_42 (dk_at dksX0_set_0 3 rfl rfl)
theorem dX0_set_4 : decode cX0_set 4 = .ok (.iload_n 1, 1) := dk_27 (dk_at dksX0_set_0 4 rfl rfl)
theorem dX0_set_5 : decode cX0_set 5 = .ok (.iload_n 2, 1) := dk_28 (dk_at dksX0_set_0 5 rfl rfl)
theorem dX0_set_6 : decode cX0_set 6 = .ok (.lload_n 3, 1) := dk_33 (dk_at dksX0_set_0 6 rfl rfl)
theorem dX0_set_7 : decode cX0_set 7 = .ok (.invokevirtual 17, 3) := dk_182 0 17 (dk_at dksX0_set_0 7 rfl rfl)
theorem dX0_set_10 : decode cX0_set 10 = .ok (.i2l, 1) := dk_133 (dk_at dksX0_set_0 10 rfl rfl)
theorem dX0_set_11 : decode cX0_set 11 = .ok (.lastore, 1) := dk_80 (dk_at dksX0_set_0 11 rfl rfl)
theorem dX0_set_12 : decode cX0_set 12 = .ok (.goto 11, 3) := dk_167 0 11 (dk_at dksX0_set_0 12 rfl rfl)
theorem dX0_set_15 : decode cX0_set 15 = .ok (.astore 6, 2) := dk_58 6 (dk_at dksX0_set_0 15 rfl rfl)
theorem dX0_set_17 : decode cX0_set 17 = .ok (.iconst 1, 1) := dk_4 (dk_at dksX0_set_0 17 rfl rfl)
theorem dX0_set_18 : decode cX0_set 18 = .ok (.ireturn, 1) := dk_172 (dk_at dksX0_set_0 18 rfl rfl)
theorem dX0_set_19 : decode cX0_set 19 = .ok (.astore 6, 2) := dk_58 6 (dk_at dksX0_set_0 19 rfl rfl)
theorem dX0_set_21 : decode cX0_set 21 = .ok (.iconst 2, 1) := dk_5 (dk_at dksX0_set_0 21 rfl rfl)
theorem dX0_set_22 : decode cX0_set 22 = .ok (.ireturn, 1) := dk_172 (dk_at dksX0_set_0 22 rfl rfl)
theorem dX0_set_23 : decode cX0_set 23 = .ok (.iconst 0, 1) := dk_3 (dk_at dksX0_set_0 23 rfl rfl)
theorem dX0_set_24 : decode cX0_set 24 = .ok (.ireturn, 1) := dk_172 (dk_at dksX0_set_1 0 rfl rfl)
abbrev cX0_book : ByteArray := method_5_code
def yX0_book : MethodName := ⟨RX0, "book", "(LRoundingAuditor;IIII[J)I"⟩
def dkwX0_book_1 : List UInt8 := [172, 3, 172]
abbrev dktX0_book_1 : List UInt8 := dkwX0_book_1 ++ []
def dkwX0_book_0 : List UInt8 := [25, 5, 3, 42, 27, 28, 29, 21, 4, 182, 0, 23, 133, 80, 167, 0, 11, 58, 6, 4, 172, 58, 6, 5]
abbrev dktX0_book_0 : List UInt8 := dkwX0_book_0 ++ dktX0_book_1
theorem dksX0_book_0 : cX0_book.data.toList.drop 0 = dktX0_book_0 := by decide +kernel
theorem dksX0_book_1 : cX0_book.data.toList.drop 24 = dktX0_book_1 := dk_seg dksX0_book_0 24 rfl rfl
theorem dX0_book_0 : decode cX0_book 0 = .ok (.aload 5, 2) := dk_25 5 (dk_at dksX0_book_0 0 rfl rfl)
theorem dX0_book_2 : decode cX0_book 2 = .ok (.iconst 0, 1) := dk_3 (dk_at dksX0_book_0 2 rfl rfl)
theorem dX0_book_3 : decode cX0_book 3 = .ok (.aload_n 0, 1) := dk_42 (dk_at dksX0_book_0 3 rfl rfl)
theorem dX0_book_4 : decode cX0_book 4 = .ok (.iload_n 1, 1) := dk_27 (dk_at dksX0_book_0 4 rfl rfl)
theorem dX0_book_5 : decode cX0_book 5 = .ok (.iload_n 2, 1) := dk_28 (dk_at dksX0_book_0 5 rfl rfl)
theorem dX0_book_6 : decode cX0_book 6 = .ok (.iload_n 3, 1) := dk_29 (dk_at dksX0_book_0 6 rfl rfl)
theorem dX0_book_7 : decode cX0_book 7 = .ok (.iload 4, 2) := dk_21 4 (dk_at dksX0_book_0 7 rfl rfl)
theorem dX0_book_9 : decode cX0_book 9 = .ok (.invokevirtual 23, 3) := dk_182 0 23 (dk_at dksX0_book_0 9 rfl rfl)
theorem dX0_book_12 : decode cX0_book 12 = .ok (.i2l, 1) := dk_133 (dk_at dksX0_book_0 12 rfl rfl)
theorem dX0_book_13 : decode cX0_book 13 = .ok (.lastore, 1) := dk_80 (dk_at dksX0_book_0 13 rfl rfl)
theorem dX0_book_14 : decode cX0_book 14 = .ok (.goto 11, 3) := dk_167 0 11 (dk_at dksX0_book_0 14 rfl rfl)
theorem dX0_book_17 : decode cX0_book 17 = .ok (.astore 6, 2) := dk_58 6 (dk_at dksX0_book_0 17 rfl rfl)
theorem dX0_book_19 : decode cX0_book 19 = .ok (.iconst 1, 1) := dk_4 (dk_at dksX0_book_0 19 rfl rfl)
theorem dX0_book_20 : decode cX0_book 20 = .ok (.ireturn, 1) := dk_172 (dk_at dksX0_book_0 20 rfl rfl)
theorem dX0_book_21 : decode cX0_book 21 = .ok (.astore 6, 2) := dk_58 6 (dk_at dksX0_book_0 21 rfl rfl)
theorem dX0_book_23 : decode cX0_book 23 = .ok (.iconst 2, 1) := dk_5 (dk_at dksX0_book_0 23 rfl rfl)
theorem dX0_book_24 : decode cX0_book 24 = .ok (.ireturn, 1) := dk_172 (dk_at dksX0_book_1 0 rfl rfl)
theorem dX0_book_25 : decode cX0_book 25 = .ok (.iconst 0, 1) := dk_3 (dk_at dksX0_book_1 1 rfl rfl)
theorem dX0_book_26 : decode cX0_book 26 = .ok (.ireturn, 1) := dk_172 (dk_at dksX0_book_1 2 rfl rfl)
abbrev cX0_amount : ByteArray := method_6_code
def yX0_amount : MethodName := ⟨RX0, "amount", "(LRoundingAuditor;II[J)I"⟩
def dkwX0_amount_0 : List UInt8 := [45, 3, 42, 27, 28, 182, 0, 27, 80, 167, 0, 11, 58, 4, 4, 172, 58, 4, 5, 172, 3, 172]
abbrev dktX0_amount_0 : List UInt8 := dkwX0_amount_0 ++ []
theorem dksX0_amount_0 : cX0_amount.data.toList.drop 0 = dktX0_amount_0 := by decide +kernel
theorem dX0_amount_0 : decode cX0_amount 0 = .ok (.aload_n 3, 1) := dk_45 (dk_at dksX0_amount_0 0 rfl rfl)
theorem dX0_amount_1 : decode cX0_amount 1 = .ok (.iconst 0, 1) := dk_3 (dk_at dksX0_amount_0 1 rfl rfl)
theorem dX0_amount_2 : decode cX0_amount 2 = .ok (.aload_n 0, 1) := dk_42 (dk_at dksX0_amount_0 2 rfl rfl)
theorem dX0_amount_3 : decode cX0_amount 3 = .ok (.iload_n 1, 1) := dk_27 (dk_at dksX0_amount_0 3 rfl rfl)
theorem dX0_amount_4 : decode cX0_amount 4 = .ok (.iload_n 2, 1) := dk_28 (dk_at dksX0_amount_0 4 rfl rfl)
theorem dX0_amount_5 : decode cX0_amount 5 = .ok (.invokevirtual 27, 3) := dk_182 0 27 (dk_at dksX0_amount_0 5 rfl rfl)
theorem dX0_amount_8 : decode cX0_amount 8 = .ok (.lastore, 1) := dk_80 (dk_at dksX0_amount_0 8 rfl rfl)
theorem dX0_amount_9 : decode cX0_amount 9 = .ok (.goto 11, 3) := dk_167 0 11 (dk_at dksX0_amount_0 9 rfl rfl)
theorem dX0_amount_12 : decode cX0_amount 12 = .ok (.astore 4, 2) := dk_58 4 (dk_at dksX0_amount_0 12 rfl rfl)
theorem dX0_amount_14 : decode cX0_amount 14 = .ok (.iconst 1, 1) := dk_4 (dk_at dksX0_amount_0 14 rfl rfl)
theorem dX0_amount_15 : decode cX0_amount 15 = .ok (.ireturn, 1) := dk_172 (dk_at dksX0_amount_0 15 rfl rfl)
theorem dX0_amount_16 : decode cX0_amount 16 = .ok (.astore 4, 2) := dk_58 4 (dk_at dksX0_amount_0 16 rfl rfl)
theorem dX0_amount_18 : decode cX0_amount 18 = .ok (.iconst 2, 1) := dk_5 (dk_at dksX0_amount_0 18 rfl rfl)
theorem dX0_amount_19 : decode cX0_amount 19 = .ok (.ireturn, 1) := dk_172 (dk_at dksX0_amount_0 19 rfl rfl)
theorem dX0_amount_20 : decode cX0_amount 20 = .ok (.iconst 0, 1) := dk_3 (dk_at dksX0_amount_0 20 rfl rfl)
theorem dX0_amount_21 : decode cX0_amount 21 = .ok (.ireturn, 1) := dk_172 (dk_at dksX0_amount_0 21 rfl rfl)
abbrev cX0_entry : ByteArray := method_7_code
def yX0_entry : MethodName := ⟨RX0, "entry", "(LRoundingAuditor;III[J)I"⟩
def dkwX0_entry_1 : List UInt8 := [172]
abbrev dktX0_entry_1 : List UInt8 := dkwX0_entry_1 ++ []
def dkwX0_entry_0 : List UInt8 := [25, 4, 3, 42, 27, 28, 29, 182, 0, 31, 133, 80, 167, 0, 11, 58, 5, 4, 172, 58, 5, 5, 172, 3]
abbrev dktX0_entry_0 : List UInt8 := dkwX0_entry_0 ++ dktX0_entry_1
theorem dksX0_entry_0 : cX0_entry.data.toList.drop 0 = dktX0_entry_0 := by decide +kernel
theorem dksX0_entry_1 : cX0_entry.data.toList.drop 24 = dktX0_entry_1 := dk_seg dksX0_entry_0 24 rfl rfl
theorem dX0_entry_0 : decode cX0_entry 0 = .ok (.aload 4, 2) := dk_25 4 (dk_at dksX0_entry_0 0 rfl rfl)
theorem dX0_entry_2 : decode cX0_entry 2 = .ok (.iconst 0, 1) := dk_3 (dk_at dksX0_entry_0 2 rfl rfl)
theorem dX0_entry_3 : decode cX0_entry 3 = .ok (.aload_n 0, 1) := dk_42 (dk_at dksX0_entry_0 3 rfl rfl)
theorem dX0_entry_4 : decode cX0_entry 4 = .ok (.iload_n 1, 1) := dk_27 (dk_at dksX0_entry_0 4 rfl rfl)
theorem dX0_entry_5 : decode cX0_entry 5 = .ok (.iload_n 2, 1) := dk_28 (dk_at dksX0_entry_0 5 rfl rfl)
theorem dX0_entry_6 : decode cX0_entry 6 = .ok (.iload_n 3, 1) := dk_29 (dk_at dksX0_entry_0 6 rfl rfl)
theorem dX0_entry_7 : decode cX0_entry 7 = .ok (.invokevirtual 31, 3) := dk_182 0 31 (dk_at dksX0_entry_0 7 rfl rfl)
theorem dX0_entry_10 : decode cX0_entry 10 = .ok (.i2l, 1) := dk_133 (dk_at dksX0_entry_0 10 rfl rfl)
theorem dX0_entry_11 : decode cX0_entry 11 = .ok (.lastore, 1) := dk_80 (dk_at dksX0_entry_0 11 rfl rfl)
theorem dX0_entry_12 : decode cX0_entry 12 = .ok (.goto 11, 3) := dk_167 0 11 (dk_at dksX0_entry_0 12 rfl rfl)
theorem dX0_entry_15 : decode cX0_entry 15 = .ok (.astore 5, 2) := dk_58 5 (dk_at dksX0_entry_0 15 rfl rfl)
theorem dX0_entry_17 : decode cX0_entry 17 = .ok (.iconst 1, 1) := dk_4 (dk_at dksX0_entry_0 17 rfl rfl)
theorem dX0_entry_18 : decode cX0_entry 18 = .ok (.ireturn, 1) := dk_172 (dk_at dksX0_entry_0 18 rfl rfl)
theorem dX0_entry_19 : decode cX0_entry 19 = .ok (.astore 5, 2) := dk_58 5 (dk_at dksX0_entry_0 19 rfl rfl)
theorem dX0_entry_21 : decode cX0_entry 21 = .ok (.iconst 2, 1) := dk_5 (dk_at dksX0_entry_0 21 rfl rfl)
theorem dX0_entry_22 : decode cX0_entry 22 = .ok (.ireturn, 1) := dk_172 (dk_at dksX0_entry_0 22 rfl rfl)
theorem dX0_entry_23 : decode cX0_entry 23 = .ok (.iconst 0, 1) := dk_3 (dk_at dksX0_entry_0 23 rfl rfl)
theorem dX0_entry_24 : decode cX0_entry 24 = .ok (.ireturn, 1) := dk_172 (dk_at dksX0_entry_1 0 rfl rfl)
abbrev cX0_about : ByteArray := method_8_code
def yX0_about : MethodName := ⟨RX0, "about", "(LRoundingAuditor;II[J)I"⟩
def dkwX0_about_0 : List UInt8 := [45, 3, 42, 27, 28, 182, 0, 35, 133, 80, 167, 0, 11, 58, 4, 4, 172, 58, 4, 5, 172, 3, 172]
abbrev dktX0_about_0 : List UInt8 := dkwX0_about_0 ++ []
theorem dksX0_about_0 : cX0_about.data.toList.drop 0 = dktX0_about_0 := by decide +kernel
theorem dX0_about_0 : decode cX0_about 0 = .ok (.aload_n 3, 1) := dk_45 (dk_at dksX0_about_0 0 rfl rfl)
theorem dX0_about_1 : decode cX0_about 1 = .ok (.iconst 0, 1) := dk_3 (dk_at dksX0_about_0 1 rfl rfl)
theorem dX0_about_2 : decode cX0_about 2 = .ok (.aload_n 0, 1) := dk_42 (dk_at dksX0_about_0 2 rfl rfl)
theorem dX0_about_3 : decode cX0_about 3 = .ok (.iload_n 1, 1) := dk_27 (dk_at dksX0_about_0 3 rfl rfl)
theorem dX0_about_4 : decode cX0_about 4 = .ok (.iload_n 2, 1) := dk_28 (dk_at dksX0_about_0 4 rfl rfl)
theorem dX0_about_5 : decode cX0_about 5 = .ok (.invokevirtual 35, 3) := dk_182 0 35 (dk_at dksX0_about_0 5 rfl rfl)
theorem dX0_about_8 : decode cX0_about 8 = .ok (.i2l, 1) := dk_133 (dk_at dksX0_about_0 8 rfl rfl)
theorem dX0_about_9 : decode cX0_about 9 = .ok (.lastore, 1) := dk_80 (dk_at dksX0_about_0 9 rfl rfl)
theorem dX0_about_10 : decode cX0_about 10 = .ok (.goto 11, 3) := dk_167 0 11 (dk_at dksX0_about_0 10 rfl rfl)
theorem dX0_about_13 : decode cX0_about 13 = .ok (.astore 4, 2) := dk_58 4 (dk_at dksX0_about_0 13 rfl rfl)
theorem dX0_about_15 : decode cX0_about 15 = .ok (.iconst 1, 1) := dk_4 (dk_at dksX0_about_0 15 rfl rfl)
theorem dX0_about_16 : decode cX0_about 16 = .ok (.ireturn, 1) := dk_172 (dk_at dksX0_about_0 16 rfl rfl)
theorem dX0_about_17 : decode cX0_about 17 = .ok (.astore 4, 2) := dk_58 4 (dk_at dksX0_about_0 17 rfl rfl)
theorem dX0_about_19 : decode cX0_about 19 = .ok (.iconst 2, 1) := dk_5 (dk_at dksX0_about_0 19 rfl rfl)
theorem dX0_about_20 : decode cX0_about 20 = .ok (.ireturn, 1) := dk_172 (dk_at dksX0_about_0 20 rfl rfl)
theorem dX0_about_21 : decode cX0_about 21 = .ok (.iconst 0, 1) := dk_3 (dk_at dksX0_about_0 21 rfl rfl)
theorem dX0_about_22 : decode cX0_about 22 = .ok (.ireturn, 1) := dk_172 (dk_at dksX0_about_0 22 rfl rfl)
abbrev cX0_filter : ByteArray := method_9_code
def yX0_filter : MethodName := ⟨RX0, "filter", "(LRoundingAuditor;III[J)I"⟩
def dkwX0_filter_1 : List UInt8 := [172]
abbrev dktX0_filter_1 : List UInt8 := dkwX0_filter_1 ++ []
def dkwX0_filter_0 : List UInt8 := [25, 4, 3, 42, 27, 28, 29, 182, 0, 39, 133, 80, 167, 0, 11, 58, 5, 4, 172, 58, 5, 5, 172, 3]
abbrev dktX0_filter_0 : List UInt8 := dkwX0_filter_0 ++ dktX0_filter_1
theorem dksX0_filter_0 : cX0_filter.data.toList.drop 0 = dktX0_filter_0 := by decide +kernel
theorem dksX0_filter_1 : cX0_filter.data.toList.drop 24 = dktX0_filter_1 := dk_seg dksX0_filter_0 24 rfl rfl
theorem dX0_filter_0 : decode cX0_filter 0 = .ok (.aload 4, 2) := dk_25 4 (dk_at dksX0_filter_0 0 rfl rfl)
theorem dX0_filter_2 : decode cX0_filter 2 = .ok (.iconst 0, 1) := dk_3 (dk_at dksX0_filter_0 2 rfl rfl)
theorem dX0_filter_3 : decode cX0_filter 3 = .ok (.aload_n 0, 1) := dk_42 (dk_at dksX0_filter_0 3 rfl rfl)
theorem dX0_filter_4 : decode cX0_filter 4 = .ok (.iload_n 1, 1) := dk_27 (dk_at dksX0_filter_0 4 rfl rfl)
theorem dX0_filter_5 : decode cX0_filter 5 = .ok (.iload_n 2, 1) := dk_28 (dk_at dksX0_filter_0 5 rfl rfl)
theorem dX0_filter_6 : decode cX0_filter 6 = .ok (.iload_n 3, 1) := dk_29 (dk_at dksX0_filter_0 6 rfl rfl)
theorem dX0_filter_7 : decode cX0_filter 7 = .ok (.invokevirtual 39, 3) := dk_182 0 39 (dk_at dksX0_filter_0 7 rfl rfl)
theorem dX0_filter_10 : decode cX0_filter 10 = .ok (.i2l, 1) := dk_133 (dk_at dksX0_filter_0 10 rfl rfl)
theorem dX0_filter_11 : decode cX0_filter 11 = .ok (.lastore, 1) := dk_80 (dk_at dksX0_filter_0 11 rfl rfl)
theorem dX0_filter_12 : decode cX0_filter 12 = .ok (.goto 11, 3) := dk_167 0 11 (dk_at dksX0_filter_0 12 rfl rfl)
theorem dX0_filter_15 : decode cX0_filter 15 = .ok (.astore 5, 2) := dk_58 5 (dk_at dksX0_filter_0 15 rfl rfl)
theorem dX0_filter_17 : decode cX0_filter 17 = .ok (.iconst 1, 1) := dk_4 (dk_at dksX0_filter_0 17 rfl rfl)
theorem dX0_filter_18 : decode cX0_filter 18 = .ok (.ireturn, 1) := dk_172 (dk_at dksX0_filter_0 18 rfl rfl)
theorem dX0_filter_19 : decode cX0_filter 19 = .ok (.astore 5, 2) := dk_58 5 (dk_at dksX0_filter_0 19 rfl rfl)
theorem dX0_filter_21 : decode cX0_filter 21 = .ok (.iconst 2, 1) := dk_5 (dk_at dksX0_filter_0 21 rfl rfl)
theorem dX0_filter_22 : decode cX0_filter 22 = .ok (.ireturn, 1) := dk_172 (dk_at dksX0_filter_0 22 rfl rfl)
theorem dX0_filter_23 : decode cX0_filter 23 = .ok (.iconst 0, 1) := dk_3 (dk_at dksX0_filter_0 23 rfl rfl)
theorem dX0_filter_24 : decode cX0_filter 24 = .ok (.ireturn, 1) := dk_172 (dk_at dksX0_filter_1 0 rfl rfl)
abbrev cX0_mix : ByteArray := method_10_code
def yX0_mix : MethodName := ⟨RX0, "mix", "(LRoundingAuditor;III[J)I"⟩
def dkwX0_mix_1 : List UInt8 := [172]
abbrev dktX0_mix_1 : List UInt8 := dkwX0_mix_1 ++ []
def dkwX0_mix_0 : List UInt8 := [25, 4, 3, 42, 27, 28, 29, 182, 0, 42, 133, 80, 167, 0, 11, 58, 5, 4, 172, 58, 5, 5, 172, 3]
abbrev dktX0_mix_0 : List UInt8 := dkwX0_mix_0 ++ dktX0_mix_1
theorem dksX0_mix_0 : cX0_mix.data.toList.drop 0 = dktX0_mix_0 := by decide +kernel
theorem dksX0_mix_1 : cX0_mix.data.toList.drop 24 = dktX0_mix_1 := dk_seg dksX0_mix_0 24 rfl rfl
theorem dX0_mix_0 : decode cX0_mix 0 = .ok (.aload 4, 2) := dk_25 4 (dk_at dksX0_mix_0 0 rfl rfl)
theorem dX0_mix_2 : decode cX0_mix 2 = .ok (.iconst 0, 1) := dk_3 (dk_at dksX0_mix_0 2 rfl rfl)
theorem dX0_mix_3 : decode cX0_mix 3 = .ok (.aload_n 0, 1) := dk_42 (dk_at dksX0_mix_0 3 rfl rfl)
theorem dX0_mix_4 : decode cX0_mix 4 = .ok (.iload_n 1, 1) := dk_27 (dk_at dksX0_mix_0 4 rfl rfl)
theorem dX0_mix_5 : decode cX0_mix 5 = .ok (.iload_n 2, 1) := dk_28 (dk_at dksX0_mix_0 5 rfl rfl)
theorem dX0_mix_6 : decode cX0_mix 6 = .ok (.iload_n 3, 1) := dk_29 (dk_at dksX0_mix_0 6 rfl rfl)
theorem dX0_mix_7 : decode cX0_mix 7 = .ok (.invokevirtual 42, 3) := dk_182 0 42 (dk_at dksX0_mix_0 7 rfl rfl)
theorem dX0_mix_10 : decode cX0_mix 10 = .ok (.i2l, 1) := dk_133 (dk_at dksX0_mix_0 10 rfl rfl)
theorem dX0_mix_11 : decode cX0_mix 11 = .ok (.lastore, 1) := dk_80 (dk_at dksX0_mix_0 11 rfl rfl)
theorem dX0_mix_12 : decode cX0_mix 12 = .ok (.goto 11, 3) := dk_167 0 11 (dk_at dksX0_mix_0 12 rfl rfl)
theorem dX0_mix_15 : decode cX0_mix 15 = .ok (.astore 5, 2) := dk_58 5 (dk_at dksX0_mix_0 15 rfl rfl)
theorem dX0_mix_17 : decode cX0_mix 17 = .ok (.iconst 1, 1) := dk_4 (dk_at dksX0_mix_0 17 rfl rfl)
theorem dX0_mix_18 : decode cX0_mix 18 = .ok (.ireturn, 1) := dk_172 (dk_at dksX0_mix_0 18 rfl rfl)
theorem dX0_mix_19 : decode cX0_mix 19 = .ok (.astore 5, 2) := dk_58 5 (dk_at dksX0_mix_0 19 rfl rfl)
theorem dX0_mix_21 : decode cX0_mix 21 = .ok (.iconst 2, 1) := dk_5 (dk_at dksX0_mix_0 21 rfl rfl)
theorem dX0_mix_22 : decode cX0_mix 22 = .ok (.ireturn, 1) := dk_172 (dk_at dksX0_mix_0 22 rfl rfl)
theorem dX0_mix_23 : decode cX0_mix 23 = .ok (.iconst 0, 1) := dk_3 (dk_at dksX0_mix_0 23 rfl rfl)
theorem dX0_mix_24 : decode cX0_mix 24 = .ok (.ireturn, 1) := dk_172 (dk_at dksX0_mix_1 0 rfl rfl)
abbrev cX0_same : ByteArray := method_11_code
def yX0_same : MethodName := ⟨RX0, "same", "(LRoundingAuditor;II[J)I"⟩
def dkwX0_same_0 : List UInt8 := [45, 3, 42, 27, 28, 182, 0, 45, 133, 80, 167, 0, 11, 58, 4, 4, 172, 58, 4, 5, 172, 3, 172]
abbrev dktX0_same_0 : List UInt8 := dkwX0_same_0 ++ []
theorem dksX0_same_0 : cX0_same.data.toList.drop 0 = dktX0_same_0 := by decide +kernel
theorem dX0_same_0 : decode cX0_same 0 = .ok (.aload_n 3, 1) := dk_45 (dk_at dksX0_same_0 0 rfl rfl)
theorem dX0_same_1 : decode cX0_same 1 = .ok (.iconst 0, 1) := dk_3 (dk_at dksX0_same_0 1 rfl rfl)
theorem dX0_same_2 : decode cX0_same 2 = .ok (.aload_n 0, 1) := dk_42 (dk_at dksX0_same_0 2 rfl rfl)
theorem dX0_same_3 : decode cX0_same 3 = .ok (.iload_n 1, 1) := dk_27 (dk_at dksX0_same_0 3 rfl rfl)
theorem dX0_same_4 : decode cX0_same 4 = .ok (.iload_n 2, 1) := dk_28 (dk_at dksX0_same_0 4 rfl rfl)
theorem dX0_same_5 : decode cX0_same 5 = .ok (.invokevirtual 45, 3) := dk_182 0 45 (dk_at dksX0_same_0 5 rfl rfl)
theorem dX0_same_8 : decode cX0_same 8 = .ok (.i2l, 1) := dk_133 (dk_at dksX0_same_0 8 rfl rfl)
theorem dX0_same_9 : decode cX0_same 9 = .ok (.lastore, 1) := dk_80 (dk_at dksX0_same_0 9 rfl rfl)
theorem dX0_same_10 : decode cX0_same 10 = .ok (.goto 11, 3) := dk_167 0 11 (dk_at dksX0_same_0 10 rfl rfl)
theorem dX0_same_13 : decode cX0_same 13 = .ok (.astore 4, 2) := dk_58 4 (dk_at dksX0_same_0 13 rfl rfl)
theorem dX0_same_15 : decode cX0_same 15 = .ok (.iconst 1, 1) := dk_4 (dk_at dksX0_same_0 15 rfl rfl)
theorem dX0_same_16 : decode cX0_same 16 = .ok (.ireturn, 1) := dk_172 (dk_at dksX0_same_0 16 rfl rfl)
theorem dX0_same_17 : decode cX0_same 17 = .ok (.astore 4, 2) := dk_58 4 (dk_at dksX0_same_0 17 rfl rfl)
theorem dX0_same_19 : decode cX0_same 19 = .ok (.iconst 2, 1) := dk_5 (dk_at dksX0_same_0 19 rfl rfl)
theorem dX0_same_20 : decode cX0_same 20 = .ok (.ireturn, 1) := dk_172 (dk_at dksX0_same_0 20 rfl rfl)
theorem dX0_same_21 : decode cX0_same 21 = .ok (.iconst 0, 1) := dk_3 (dk_at dksX0_same_0 21 rfl rfl)
theorem dX0_same_22 : decode cX0_same 22 = .ok (.ireturn, 1) := dk_172 (dk_at dksX0_same_0 22 rfl rfl)
abbrev cX0_worked : ByteArray := method_12_code
def yX0_worked : MethodName := ⟨RX0, "worked", "(LRoundingAuditor;IIII[J)I"⟩
def dkwX0_worked_1 : List UInt8 := [58, 6, 6, 172, 3, 172]
abbrev dktX0_worked_1 : List UInt8 := dkwX0_worked_1 ++ []
def dkwX0_worked_0 : List UInt8 := [25, 5, 3, 42, 27, 28, 29, 21, 4, 182, 0, 48, 80, 167, 0, 15, 58, 6, 4, 172, 58, 6, 5, 172]
abbrev dktX0_worked_0 : List UInt8 := dkwX0_worked_0 ++ dktX0_worked_1
theorem dksX0_worked_0 : cX0_worked.data.toList.drop 0 = dktX0_worked_0 := by decide +kernel
theorem dksX0_worked_1 : cX0_worked.data.toList.drop 24 = dktX0_worked_1 := dk_seg dksX0_worked_0 24 rfl rfl
theorem dX0_worked_0 : decode cX0_worked 0 = .ok (.aload 5, 2) := dk_25 5 (dk_at dksX0_worked_0 0 rfl rfl)
theorem dX0_worked_2 : decode cX0_worked 2 = .ok (.iconst 0, 1) := dk_3 (dk_at dksX0_worked_0 2 rfl rfl)
theorem dX0_worked_3 : decode cX0_worked 3 = .ok (.aload_n 0, 1) := dk_42 (dk_at dksX0_worked_0 3 rfl rfl)
theorem dX0_worked_4 : decode cX0_worked 4 = .ok (.iload_n 1, 1) := dk_27 (dk_at dksX0_worked_0 4 rfl rfl)
theorem dX0_worked_5 : decode cX0_worked 5 = .ok (.iload_n 2, 1) := dk_28 (dk_at dksX0_worked_0 5 rfl rfl)
theorem dX0_worked_6 : decode cX0_worked 6 = .ok (.iload_n 3, 1) := dk_29 (dk_at dksX0_worked_0 6 rfl rfl)
theorem dX0_worked_7 : decode cX0_worked 7 = .ok (.iload 4, 2) := dk_21 4 (dk_at dksX0_worked_0 7 rfl rfl)
theorem dX0_worked_9 : decode cX0_worked 9 = .ok (.invokevirtual 48, 3) := dk_182 0 48 (dk_at dksX0_worked_0 9 rfl rfl)
theorem dX0_worked_12 : decode cX0_worked 12 = .ok (.lastore, 1) := dk_80 (dk_at dksX0_worked_0 12 rfl rfl)
theorem dX0_worked_13 : decode cX0_worked 13 = .ok (.goto 15, 3) := dk_167 0 15 (dk_at dksX0_worked_0 13 rfl rfl)
theorem dX0_worked_16 : decode cX0_worked 16 = .ok (.astore 6, 2) := dk_58 6 (dk_at dksX0_worked_0 16 rfl rfl)
theorem dX0_worked_18 : decode cX0_worked 18 = .ok (.iconst 1, 1) := dk_4 (dk_at dksX0_worked_0 18 rfl rfl)
theorem dX0_worked_19 : decode cX0_worked 19 = .ok (.ireturn, 1) := dk_172 (dk_at dksX0_worked_0 19 rfl rfl)
theorem dX0_worked_20 : decode cX0_worked 20 = .ok (.astore 6, 2) := dk_58 6 (dk_at dksX0_worked_0 20 rfl rfl)
theorem dX0_worked_22 : decode cX0_worked 22 = .ok (.iconst 2, 1) := dk_5 (dk_at dksX0_worked_0 22 rfl rfl)
theorem dX0_worked_23 : decode cX0_worked 23 = .ok (.ireturn, 1) := dk_172 (dk_at dksX0_worked_0 23 rfl rfl)
theorem dX0_worked_24 : decode cX0_worked 24 = .ok (.astore 6, 2) := dk_58 6 (dk_at dksX0_worked_1 0 rfl rfl)
theorem dX0_worked_26 : decode cX0_worked 26 = .ok (.iconst 3, 1) := dk_6 (dk_at dksX0_worked_1 2 rfl rfl)
theorem dX0_worked_27 : decode cX0_worked 27 = .ok (.ireturn, 1) := dk_172 (dk_at dksX0_worked_1 3 rfl rfl)
theorem dX0_worked_28 : decode cX0_worked 28 = .ok (.iconst 0, 1) := dk_3 (dk_at dksX0_worked_1 4 rfl rfl)
theorem dX0_worked_29 : decode cX0_worked 29 = .ok (.ireturn, 1) := dk_172 (dk_at dksX0_worked_1 5 rfl rfl)
abbrev cX0_whole : ByteArray := method_13_code
def yX0_whole : MethodName := ⟨RX0, "whole", "(LRoundingAuditor;III[J)I"⟩
def dkwX0_whole_0 : List UInt8 := [25, 4, 3, 42, 27, 28, 29, 182, 0, 54, 80, 167, 0, 11, 58, 5, 4, 172, 58, 5, 5, 172, 3, 172]
abbrev dktX0_whole_0 : List UInt8 := dkwX0_whole_0 ++ []
theorem dksX0_whole_0 : cX0_whole.data.toList.drop 0 = dktX0_whole_0 := by decide +kernel
theorem dX0_whole_0 : decode cX0_whole 0 = .ok (.aload 4, 2) := dk_25 4 (dk_at dksX0_whole_0 0 rfl rfl)
theorem dX0_whole_2 : decode cX0_whole 2 = .ok (.iconst 0, 1) := dk_3 (dk_at dksX0_whole_0 2 rfl rfl)
theorem dX0_whole_3 : decode cX0_whole 3 = .ok (.aload_n 0, 1) := dk_42 (dk_at dksX0_whole_0 3 rfl rfl)
theorem dX0_whole_4 : decode cX0_whole 4 = .ok (.iload_n 1, 1) := dk_27 (dk_at dksX0_whole_0 4 rfl rfl)
theorem dX0_whole_5 : decode cX0_whole 5 = .ok (.iload_n 2, 1) := dk_28 (dk_at dksX0_whole_0 5 rfl rfl)
theorem dX0_whole_6 : decode cX0_whole 6 = .ok (.iload_n 3, 1) := dk_29 (dk_at dksX0_whole_0 6 rfl rfl)
theorem dX0_whole_7 : decode cX0_whole 7 = .ok (.invokevirtual 54, 3) := dk_182 0 54 (dk_at dksX0_whole_0 7 rfl rfl)
theorem dX0_whole_10 : decode cX0_whole 10 = .ok (.lastore, 1) := dk_80 (dk_at dksX0_whole_0 10 rfl rfl)
theorem dX0_whole_11 : decode cX0_whole 11 = .ok (.goto 11, 3) := dk_167 0 11 (dk_at dksX0_whole_0 11 rfl rfl)
theorem dX0_whole_14 : decode cX0_whole 14 = .ok (.astore 5, 2) := dk_58 5 (dk_at dksX0_whole_0 14 rfl rfl)
theorem dX0_whole_16 : decode cX0_whole 16 = .ok (.iconst 1, 1) := dk_4 (dk_at dksX0_whole_0 16 rfl rfl)
theorem dX0_whole_17 : decode cX0_whole 17 = .ok (.ireturn, 1) := dk_172 (dk_at dksX0_whole_0 17 rfl rfl)
theorem dX0_whole_18 : decode cX0_whole 18 = .ok (.astore 5, 2) := dk_58 5 (dk_at dksX0_whole_0 18 rfl rfl)
theorem dX0_whole_20 : decode cX0_whole 20 = .ok (.iconst 2, 1) := dk_5 (dk_at dksX0_whole_0 20 rfl rfl)
theorem dX0_whole_21 : decode cX0_whole 21 = .ok (.ireturn, 1) := dk_172 (dk_at dksX0_whole_0 21 rfl rfl)
theorem dX0_whole_22 : decode cX0_whole 22 = .ok (.iconst 0, 1) := dk_3 (dk_at dksX0_whole_0 22 rfl rfl)
theorem dX0_whole_23 : decode cX0_whole 23 = .ok (.ireturn, 1) := dk_172 (dk_at dksX0_whole_0 23 rfl rfl)
abbrev cX0_units : ByteArray := method_14_code
def yX0_units : MethodName := ⟨RX0, "units", "(LRoundingAuditor;III[J)I"⟩
def dkwX0_units_0 : List UInt8 := [25, 4, 3, 42, 27, 28, 29, 182, 0, 58, 80, 167, 0, 11, 58, 5, 4, 172, 58, 5, 5, 172, 3, 172]
abbrev dktX0_units_0 : List UInt8 := dkwX0_units_0 ++ []
theorem dksX0_units_0 : cX0_units.data.toList.drop 0 = dktX0_units_0 := by decide +kernel
theorem dX0_units_0 : decode cX0_units 0 = .ok (.aload 4, 2) := dk_25 4 (dk_at dksX0_units_0 0 rfl rfl)
theorem dX0_units_2 : decode cX0_units 2 = .ok (.iconst 0, 1) := dk_3 (dk_at dksX0_units_0 2 rfl rfl)
theorem dX0_units_3 : decode cX0_units 3 = .ok (.aload_n 0, 1) := dk_42 (dk_at dksX0_units_0 3 rfl rfl)
theorem dX0_units_4 : decode cX0_units 4 = .ok (.iload_n 1, 1) := dk_27 (dk_at dksX0_units_0 4 rfl rfl)
theorem dX0_units_5 : decode cX0_units 5 = .ok (.iload_n 2, 1) := dk_28 (dk_at dksX0_units_0 5 rfl rfl)
theorem dX0_units_6 : decode cX0_units 6 = .ok (.iload_n 3, 1) := dk_29 (dk_at dksX0_units_0 6 rfl rfl)
theorem dX0_units_7 : decode cX0_units 7 = .ok (.invokevirtual 58, 3) := dk_182 0 58 (dk_at dksX0_units_0 7 rfl rfl)
theorem dX0_units_10 : decode cX0_units 10 = .ok (.lastore, 1) := dk_80 (dk_at dksX0_units_0 10 rfl rfl)
theorem dX0_units_11 : decode cX0_units 11 = .ok (.goto 11, 3) := dk_167 0 11 (dk_at dksX0_units_0 11 rfl rfl)
theorem dX0_units_14 : decode cX0_units 14 = .ok (.astore 5, 2) := dk_58 5 (dk_at dksX0_units_0 14 rfl rfl)
theorem dX0_units_16 : decode cX0_units 16 = .ok (.iconst 1, 1) := dk_4 (dk_at dksX0_units_0 16 rfl rfl)
theorem dX0_units_17 : decode cX0_units 17 = .ok (.ireturn, 1) := dk_172 (dk_at dksX0_units_0 17 rfl rfl)
theorem dX0_units_18 : decode cX0_units 18 = .ok (.astore 5, 2) := dk_58 5 (dk_at dksX0_units_0 18 rfl rfl)
theorem dX0_units_20 : decode cX0_units 20 = .ok (.iconst 2, 1) := dk_5 (dk_at dksX0_units_0 20 rfl rfl)
theorem dX0_units_21 : decode cX0_units 21 = .ok (.ireturn, 1) := dk_172 (dk_at dksX0_units_0 21 rfl rfl)
theorem dX0_units_22 : decode cX0_units 22 = .ok (.iconst 0, 1) := dk_3 (dk_at dksX0_units_0 22 rfl rfl)
theorem dX0_units_23 : decode cX0_units 23 = .ok (.ireturn, 1) := dk_172 (dk_at dksX0_units_0 23 rfl rfl)
abbrev cX0_give : ByteArray := method_15_code
def yX0_give : MethodName := ⟨RX0, "give", "(LRoundingAuditor;II[J)I"⟩
def dkwX0_give_0 : List UInt8 := [45, 3, 42, 27, 28, 182, 0, 61, 133, 80, 167, 0, 11, 58, 4, 4, 172, 58, 4, 5, 172, 3, 172]
abbrev dktX0_give_0 : List UInt8 := dkwX0_give_0 ++ []
theorem dksX0_give_0 : cX0_give.data.toList.drop 0 = dktX0_give_0 := by decide +kernel
theorem dX0_give_0 : decode cX0_give 0 = .ok (.aload_n 3, 1) := dk_45 (dk_at dksX0_give_0 0 rfl rfl)
theorem dX0_give_1 : decode cX0_give 1 = .ok (.iconst 0, 1) := dk_3 (dk_at dksX0_give_0 1 rfl rfl)
theorem dX0_give_2 : decode cX0_give 2 = .ok (.aload_n 0, 1) := dk_42 (dk_at dksX0_give_0 2 rfl rfl)
theorem dX0_give_3 : decode cX0_give 3 = .ok (.iload_n 1, 1) := dk_27 (dk_at dksX0_give_0 3 rfl rfl)
theorem dX0_give_4 : decode cX0_give 4 = .ok (.iload_n 2, 1) := dk_28 (dk_at dksX0_give_0 4 rfl rfl)
theorem dX0_give_5 : decode cX0_give 5 = .ok (.invokevirtual 61, 3) := dk_182 0 61 (dk_at dksX0_give_0 5 rfl rfl)
theorem dX0_give_8 : decode cX0_give 8 = .ok (.i2l, 1) := dk_133 (dk_at dksX0_give_0 8 rfl rfl)
theorem dX0_give_9 : decode cX0_give 9 = .ok (.lastore, 1) := dk_80 (dk_at dksX0_give_0 9 rfl rfl)
theorem dX0_give_10 : decode cX0_give 10 = .ok (.goto 11, 3) := dk_167 0 11 (dk_at dksX0_give_0 10 rfl rfl)
theorem dX0_give_13 : decode cX0_give 13 = .ok (.astore 4, 2) := dk_58 4 (dk_at dksX0_give_0 13 rfl rfl)
theorem dX0_give_15 : decode cX0_give 15 = .ok (.iconst 1, 1) := dk_4 (dk_at dksX0_give_0 15 rfl rfl)
theorem dX0_give_16 : decode cX0_give 16 = .ok (.ireturn, 1) := dk_172 (dk_at dksX0_give_0 16 rfl rfl)
theorem dX0_give_17 : decode cX0_give 17 = .ok (.astore 4, 2) := dk_58 4 (dk_at dksX0_give_0 17 rfl rfl)
theorem dX0_give_19 : decode cX0_give 19 = .ok (.iconst 2, 1) := dk_5 (dk_at dksX0_give_0 19 rfl rfl)
theorem dX0_give_20 : decode cX0_give 20 = .ok (.ireturn, 1) := dk_172 (dk_at dksX0_give_0 20 rfl rfl)
theorem dX0_give_21 : decode cX0_give 21 = .ok (.iconst 0, 1) := dk_3 (dk_at dksX0_give_0 21 rfl rfl)
theorem dX0_give_22 : decode cX0_give 22 = .ok (.ireturn, 1) := dk_172 (dk_at dksX0_give_0 22 rfl rfl)
abbrev cX0_run : ByteArray := method_16_code
def yX0_run : MethodName := ⟨RX0, "run", "(LRoundingAuditor;III[J)I"⟩
def dkwX0_run_1 : List UInt8 := [172]
abbrev dktX0_run_1 : List UInt8 := dkwX0_run_1 ++ []
def dkwX0_run_0 : List UInt8 := [25, 4, 3, 42, 27, 28, 29, 182, 0, 64, 133, 80, 167, 0, 11, 58, 5, 4, 172, 58, 5, 5, 172, 3]
abbrev dktX0_run_0 : List UInt8 := dkwX0_run_0 ++ dktX0_run_1
theorem dksX0_run_0 : cX0_run.data.toList.drop 0 = dktX0_run_0 := by decide +kernel
theorem dksX0_run_1 : cX0_run.data.toList.drop 24 = dktX0_run_1 := dk_seg dksX0_run_0 24 rfl rfl
theorem dX0_run_0 : decode cX0_run 0 = .ok (.aload 4, 2) := dk_25 4 (dk_at dksX0_run_0 0 rfl rfl)
theorem dX0_run_2 : decode cX0_run 2 = .ok (.iconst 0, 1) := dk_3 (dk_at dksX0_run_0 2 rfl rfl)
theorem dX0_run_3 : decode cX0_run 3 = .ok (.aload_n 0, 1) := dk_42 (dk_at dksX0_run_0 3 rfl rfl)
theorem dX0_run_4 : decode cX0_run 4 = .ok (.iload_n 1, 1) := dk_27 (dk_at dksX0_run_0 4 rfl rfl)
theorem dX0_run_5 : decode cX0_run 5 = .ok (.iload_n 2, 1) := dk_28 (dk_at dksX0_run_0 5 rfl rfl)
theorem dX0_run_6 : decode cX0_run 6 = .ok (.iload_n 3, 1) := dk_29 (dk_at dksX0_run_0 6 rfl rfl)
theorem dX0_run_7 : decode cX0_run 7 = .ok (.invokevirtual 64, 3) := dk_182 0 64 (dk_at dksX0_run_0 7 rfl rfl)
theorem dX0_run_10 : decode cX0_run 10 = .ok (.i2l, 1) := dk_133 (dk_at dksX0_run_0 10 rfl rfl)
theorem dX0_run_11 : decode cX0_run 11 = .ok (.lastore, 1) := dk_80 (dk_at dksX0_run_0 11 rfl rfl)
theorem dX0_run_12 : decode cX0_run 12 = .ok (.goto 11, 3) := dk_167 0 11 (dk_at dksX0_run_0 12 rfl rfl)
theorem dX0_run_15 : decode cX0_run 15 = .ok (.astore 5, 2) := dk_58 5 (dk_at dksX0_run_0 15 rfl rfl)
theorem dX0_run_17 : decode cX0_run 17 = .ok (.iconst 1, 1) := dk_4 (dk_at dksX0_run_0 17 rfl rfl)
theorem dX0_run_18 : decode cX0_run 18 = .ok (.ireturn, 1) := dk_172 (dk_at dksX0_run_0 18 rfl rfl)
theorem dX0_run_19 : decode cX0_run 19 = .ok (.astore 5, 2) := dk_58 5 (dk_at dksX0_run_0 19 rfl rfl)
theorem dX0_run_21 : decode cX0_run 21 = .ok (.iconst 2, 1) := dk_5 (dk_at dksX0_run_0 21 rfl rfl)
theorem dX0_run_22 : decode cX0_run 22 = .ok (.ireturn, 1) := dk_172 (dk_at dksX0_run_0 22 rfl rfl)
theorem dX0_run_23 : decode cX0_run 23 = .ok (.iconst 0, 1) := dk_3 (dk_at dksX0_run_0 23 rfl rfl)
theorem dX0_run_24 : decode cX0_run 24 = .ok (.ireturn, 1) := dk_172 (dk_at dksX0_run_1 0 rfl rfl)
abbrev cX0_compare : ByteArray := method_17_code
def yX0_compare : MethodName := ⟨RX0, "compare", "(LRoundingAuditor;IJ[J)I"⟩
def dkwX0_compare_0 : List UInt8 := [25, 4, 3, 42, 27, 32, 182, 0, 67, 133, 80, 167, 0, 11, 58, 5, 4, 172, 58, 5, 5, 172, 3, 172]
abbrev dktX0_compare_0 : List UInt8 := dkwX0_compare_0 ++ []
theorem dksX0_compare_0 : cX0_compare.data.toList.drop 0 = dktX0_compare_0 := by decide +kernel
theorem dX0_compare_0 : decode cX0_compare 0 = .ok (.aload 4, 2) := dk_25 4 (dk_at dksX0_compare_0 0 rfl rfl)
theorem dX0_compare_2 : decode cX0_compare 2 = .ok (.iconst 0, 1) := dk_3 (dk_at dksX0_compare_0 2 rfl rfl)
theorem dX0_compare_3 : decode cX0_compare 3 = .ok (.aload_n 0, 1) := dk_42 (dk_at dksX0_compare_0 3 rfl rfl)
theorem dX0_compare_4 : decode cX0_compare 4 = .ok (.iload_n 1, 1) := dk_27 (dk_at dksX0_compare_0 4 rfl rfl)
theorem dX0_compare_5 : decode cX0_compare 5 = .ok (.lload_n 2, 1) := dk_32 (dk_at dksX0_compare_0 5 rfl rfl)
theorem dX0_compare_6 : decode cX0_compare 6 = .ok (.invokevirtual 67, 3) := dk_182 0 67 (dk_at dksX0_compare_0 6 rfl rfl)
theorem dX0_compare_9 : decode cX0_compare 9 = .ok (.i2l, 1) := dk_133 (dk_at dksX0_compare_0 9 rfl rfl)
theorem dX0_compare_10 : decode cX0_compare 10 = .ok (.lastore, 1) := dk_80 (dk_at dksX0_compare_0 10 rfl rfl)
theorem dX0_compare_11 : decode cX0_compare 11 = .ok (.goto 11, 3) := dk_167 0 11 (dk_at dksX0_compare_0 11 rfl rfl)
theorem dX0_compare_14 : decode cX0_compare 14 = .ok (.astore 5, 2) := dk_58 5 (dk_at dksX0_compare_0 14 rfl rfl)
theorem dX0_compare_16 : decode cX0_compare 16 = .ok (.iconst 1, 1) := dk_4 (dk_at dksX0_compare_0 16 rfl rfl)
theorem dX0_compare_17 : decode cX0_compare 17 = .ok (.ireturn, 1) := dk_172 (dk_at dksX0_compare_0 17 rfl rfl)
theorem dX0_compare_18 : decode cX0_compare 18 = .ok (.astore 5, 2) := dk_58 5 (dk_at dksX0_compare_0 18 rfl rfl)
theorem dX0_compare_20 : decode cX0_compare 20 = .ok (.iconst 2, 1) := dk_5 (dk_at dksX0_compare_0 20 rfl rfl)
theorem dX0_compare_21 : decode cX0_compare 21 = .ok (.ireturn, 1) := dk_172 (dk_at dksX0_compare_0 21 rfl rfl)
theorem dX0_compare_22 : decode cX0_compare 22 = .ok (.iconst 0, 1) := dk_3 (dk_at dksX0_compare_0 22 rfl rfl)
theorem dX0_compare_23 : decode cX0_compare 23 = .ok (.ireturn, 1) := dk_172 (dk_at dksX0_compare_0 23 rfl rfl)
abbrev cX0_rounded : ByteArray := method_18_code
def yX0_rounded : MethodName := ⟨RX0, "rounded", "(LRoundingAuditor;I[J)I"⟩
def dkwX0_rounded_0 : List UInt8 := [44, 3, 42, 27, 182, 0, 71, 80, 167, 0, 9, 78, 4, 172, 78, 5, 172, 3, 172]
abbrev dktX0_rounded_0 : List UInt8 := dkwX0_rounded_0 ++ []
theorem dksX0_rounded_0 : cX0_rounded.data.toList.drop 0 = dktX0_rounded_0 := by decide +kernel
theorem dX0_rounded_0 : decode cX0_rounded 0 = .ok (.aload_n 2, 1) := dk_44 (dk_at dksX0_rounded_0 0 rfl rfl)
theorem dX0_rounded_1 : decode cX0_rounded 1 = .ok (.iconst 0, 1) := dk_3 (dk_at dksX0_rounded_0 1 rfl rfl)
theorem dX0_rounded_2 : decode cX0_rounded 2 = .ok (.aload_n 0, 1) := dk_42 (dk_at dksX0_rounded_0 2 rfl rfl)
theorem dX0_rounded_3 : decode cX0_rounded 3 = .ok (.iload_n 1, 1) := dk_27 (dk_at dksX0_rounded_0 3 rfl rfl)
theorem dX0_rounded_4 : decode cX0_rounded 4 = .ok (.invokevirtual 71, 3) := dk_182 0 71 (dk_at dksX0_rounded_0 4 rfl rfl)
theorem dX0_rounded_7 : decode cX0_rounded 7 = .ok (.lastore, 1) := dk_80 (dk_at dksX0_rounded_0 7 rfl rfl)
theorem dX0_rounded_8 : decode cX0_rounded 8 = .ok (.goto 9, 3) := dk_167 0 9 (dk_at dksX0_rounded_0 8 rfl rfl)
theorem dX0_rounded_11 : decode cX0_rounded 11 = .ok (.astore_n 3, 1) := dk_78 (dk_at dksX0_rounded_0 11 rfl rfl)
theorem dX0_rounded_12 : decode cX0_rounded 12 = .ok (.iconst 1, 1) := dk_4 (dk_at dksX0_rounded_0 12 rfl rfl)
theorem dX0_rounded_13 : decode cX0_rounded 13 = .ok (.ireturn, 1) := dk_172 (dk_at dksX0_rounded_0 13 rfl rfl)
theorem dX0_rounded_14 : decode cX0_rounded 14 = .ok (.astore_n 3, 1) := dk_78 (dk_at dksX0_rounded_0 14 rfl rfl)
theorem dX0_rounded_15 : decode cX0_rounded 15 = .ok (.iconst 2, 1) := dk_5 (dk_at dksX0_rounded_0 15 rfl rfl)
theorem dX0_rounded_16 : decode cX0_rounded 16 = .ok (.ireturn, 1) := dk_172 (dk_at dksX0_rounded_0 16 rfl rfl)
theorem dX0_rounded_17 : decode cX0_rounded 17 = .ok (.iconst 0, 1) := dk_3 (dk_at dksX0_rounded_0 17 rfl rfl)
theorem dX0_rounded_18 : decode cX0_rounded 18 = .ok (.ireturn, 1) := dk_172 (dk_at dksX0_rounded_0 18 rfl rfl)
abbrev cX0_word : ByteArray := method_19_code
def yX0_word : MethodName := ⟨RX0, "word", "(LRoundingAuditor;II[J)I"⟩
def dkwX0_word_0 : List UInt8 := [45, 3, 42, 27, 28, 182, 0, 75, 133, 80, 167, 0, 11, 58, 4, 4, 172, 58, 4, 5, 172, 3, 172]
abbrev dktX0_word_0 : List UInt8 := dkwX0_word_0 ++ []
theorem dksX0_word_0 : cX0_word.data.toList.drop 0 = dktX0_word_0 := by decide +kernel
theorem dX0_word_0 : decode cX0_word 0 = .ok (.aload_n 3, 1) := dk_45 (dk_at dksX0_word_0 0 rfl rfl)
theorem dX0_word_1 : decode cX0_word 1 = .ok (.iconst 0, 1) := dk_3 (dk_at dksX0_word_0 1 rfl rfl)
theorem dX0_word_2 : decode cX0_word 2 = .ok (.aload_n 0, 1) := dk_42 (dk_at dksX0_word_0 2 rfl rfl)
theorem dX0_word_3 : decode cX0_word 3 = .ok (.iload_n 1, 1) := dk_27 (dk_at dksX0_word_0 3 rfl rfl)
theorem dX0_word_4 : decode cX0_word 4 = .ok (.iload_n 2, 1) := dk_28 (dk_at dksX0_word_0 4 rfl rfl)
theorem dX0_word_5 : decode cX0_word 5 = .ok (.invokevirtual 75, 3) := dk_182 0 75 (dk_at dksX0_word_0 5 rfl rfl)
theorem dX0_word_8 : decode cX0_word 8 = .ok (.i2l, 1) := dk_133 (dk_at dksX0_word_0 8 rfl rfl)
theorem dX0_word_9 : decode cX0_word 9 = .ok (.lastore, 1) := dk_80 (dk_at dksX0_word_0 9 rfl rfl)
theorem dX0_word_10 : decode cX0_word 10 = .ok (.goto 11, 3) := dk_167 0 11 (dk_at dksX0_word_0 10 rfl rfl)
theorem dX0_word_13 : decode cX0_word 13 = .ok (.astore 4, 2) := dk_58 4 (dk_at dksX0_word_0 13 rfl rfl)
theorem dX0_word_15 : decode cX0_word 15 = .ok (.iconst 1, 1) := dk_4 (dk_at dksX0_word_0 15 rfl rfl)
theorem dX0_word_16 : decode cX0_word 16 = .ok (.ireturn, 1) := dk_172 (dk_at dksX0_word_0 16 rfl rfl)
theorem dX0_word_17 : decode cX0_word 17 = .ok (.astore 4, 2) := dk_58 4 (dk_at dksX0_word_0 17 rfl rfl)
theorem dX0_word_19 : decode cX0_word 19 = .ok (.iconst 2, 1) := dk_5 (dk_at dksX0_word_0 19 rfl rfl)
theorem dX0_word_20 : decode cX0_word 20 = .ok (.ireturn, 1) := dk_172 (dk_at dksX0_word_0 20 rfl rfl)
theorem dX0_word_21 : decode cX0_word 21 = .ok (.iconst 0, 1) := dk_3 (dk_at dksX0_word_0 21 rfl rfl)
theorem dX0_word_22 : decode cX0_word 22 = .ok (.ireturn, 1) := dk_172 (dk_at dksX0_word_0 22 rfl rfl)
abbrev cX0_extreme : ByteArray := method_20_code
def yX0_extreme : MethodName := ⟨RX0, "extreme", "(LRoundingAuditor;IZ[J)I"⟩
def dkwX0_extreme_0 : List UInt8 := [45, 3, 42, 27, 28, 182, 0, 78, 80, 167, 0, 11, 58, 4, 4, 172, 58, 4, 5, 172, 3, 172]
abbrev dktX0_extreme_0 : List UInt8 := dkwX0_extreme_0 ++ []
theorem dksX0_extreme_0 : cX0_extreme.data.toList.drop 0 = dktX0_extreme_0 := by decide +kernel
theorem dX0_extreme_0 : decode cX0_extreme 0 = .ok (.aload_n 3, 1) := dk_45 (dk_at dksX0_extreme_0 0 rfl rfl)
theorem dX0_extreme_1 : decode cX0_extreme 1 = .ok (.iconst 0, 1) := dk_3 (dk_at dksX0_extreme_0 1 rfl rfl)
theorem dX0_extreme_2 : decode cX0_extreme 2 = .ok (.aload_n 0, 1) := dk_42 (dk_at dksX0_extreme_0 2 rfl rfl)
theorem dX0_extreme_3 : decode cX0_extreme 3 = .ok (.iload_n 1, 1) := dk_27 (dk_at dksX0_extreme_0 3 rfl rfl)
theorem dX0_extreme_4 : decode cX0_extreme 4 = .ok (.iload_n 2, 1) := dk_28 (dk_at dksX0_extreme_0 4 rfl rfl)
theorem dX0_extreme_5 : decode cX0_extreme 5 = .ok (.invokevirtual 78, 3) := dk_182 0 78 (dk_at dksX0_extreme_0 5 rfl rfl)
theorem dX0_extreme_8 : decode cX0_extreme 8 = .ok (.lastore, 1) := dk_80 (dk_at dksX0_extreme_0 8 rfl rfl)
theorem dX0_extreme_9 : decode cX0_extreme 9 = .ok (.goto 11, 3) := dk_167 0 11 (dk_at dksX0_extreme_0 9 rfl rfl)
theorem dX0_extreme_12 : decode cX0_extreme 12 = .ok (.astore 4, 2) := dk_58 4 (dk_at dksX0_extreme_0 12 rfl rfl)
theorem dX0_extreme_14 : decode cX0_extreme 14 = .ok (.iconst 1, 1) := dk_4 (dk_at dksX0_extreme_0 14 rfl rfl)
theorem dX0_extreme_15 : decode cX0_extreme 15 = .ok (.ireturn, 1) := dk_172 (dk_at dksX0_extreme_0 15 rfl rfl)
theorem dX0_extreme_16 : decode cX0_extreme 16 = .ok (.astore 4, 2) := dk_58 4 (dk_at dksX0_extreme_0 16 rfl rfl)
theorem dX0_extreme_18 : decode cX0_extreme 18 = .ok (.iconst 2, 1) := dk_5 (dk_at dksX0_extreme_0 18 rfl rfl)
theorem dX0_extreme_19 : decode cX0_extreme 19 = .ok (.ireturn, 1) := dk_172 (dk_at dksX0_extreme_0 19 rfl rfl)
theorem dX0_extreme_20 : decode cX0_extreme 20 = .ok (.iconst 0, 1) := dk_3 (dk_at dksX0_extreme_0 20 rfl rfl)
theorem dX0_extreme_21 : decode cX0_extreme 21 = .ok (.ireturn, 1) := dk_172 (dk_at dksX0_extreme_0 21 rfl rfl)
abbrev cX0_reach : ByteArray := method_21_code
def yX0_reach : MethodName := ⟨RX0, "reach", "(LRoundingAuditor;I[J)I"⟩
def dkwX0_reach_0 : List UInt8 := [44, 3, 42, 27, 182, 0, 82, 133, 80, 167, 0, 9, 78, 4, 172, 78, 5, 172, 3, 172]
abbrev dktX0_reach_0 : List UInt8 := dkwX0_reach_0 ++ []
theorem dksX0_reach_0 : cX0_reach.data.toList.drop 0 = dktX0_reach_0 := by decide +kernel
theorem dX0_reach_0 : decode cX0_reach 0 = .ok (.aload_n 2, 1) := dk_44 (dk_at dksX0_reach_0 0 rfl rfl)
theorem dX0_reach_1 : decode cX0_reach 1 = .ok (.iconst 0, 1) := dk_3 (dk_at dksX0_reach_0 1 rfl rfl)
theorem dX0_reach_2 : decode cX0_reach 2 = .ok (.aload_n 0, 1) := dk_42 (dk_at dksX0_reach_0 2 rfl rfl)
theorem dX0_reach_3 : decode cX0_reach 3 = .ok (.iload_n 1, 1) := dk_27 (dk_at dksX0_reach_0 3 rfl rfl)
theorem dX0_reach_4 : decode cX0_reach 4 = .ok (.invokevirtual 82, 3) := dk_182 0 82 (dk_at dksX0_reach_0 4 rfl rfl)
theorem dX0_reach_7 : decode cX0_reach 7 = .ok (.i2l, 1) := dk_133 (dk_at dksX0_reach_0 7 rfl rfl)
theorem dX0_reach_8 : decode cX0_reach 8 = .ok (.lastore, 1) := dk_80 (dk_at dksX0_reach_0 8 rfl rfl)
theorem dX0_reach_9 : decode cX0_reach 9 = .ok (.goto 9, 3) := dk_167 0 9 (dk_at dksX0_reach_0 9 rfl rfl)
theorem dX0_reach_12 : decode cX0_reach 12 = .ok (.astore_n 3, 1) := dk_78 (dk_at dksX0_reach_0 12 rfl rfl)
theorem dX0_reach_13 : decode cX0_reach 13 = .ok (.iconst 1, 1) := dk_4 (dk_at dksX0_reach_0 13 rfl rfl)
theorem dX0_reach_14 : decode cX0_reach 14 = .ok (.ireturn, 1) := dk_172 (dk_at dksX0_reach_0 14 rfl rfl)
theorem dX0_reach_15 : decode cX0_reach 15 = .ok (.astore_n 3, 1) := dk_78 (dk_at dksX0_reach_0 15 rfl rfl)
theorem dX0_reach_16 : decode cX0_reach 16 = .ok (.iconst 2, 1) := dk_5 (dk_at dksX0_reach_0 16 rfl rfl)
theorem dX0_reach_17 : decode cX0_reach 17 = .ok (.ireturn, 1) := dk_172 (dk_at dksX0_reach_0 17 rfl rfl)
theorem dX0_reach_18 : decode cX0_reach 18 = .ok (.iconst 0, 1) := dk_3 (dk_at dksX0_reach_0 18 rfl rfl)
theorem dX0_reach_19 : decode cX0_reach 19 = .ok (.ireturn, 1) := dk_172 (dk_at dksX0_reach_0 19 rfl rfl)
abbrev cX0_cure : ByteArray := method_22_code
def yX0_cure : MethodName := ⟨RX0, "cure", "(LRoundingAuditor;I[J)I"⟩
def dkwX0_cure_0 : List UInt8 := [44, 3, 42, 27, 182, 0, 86, 133, 80, 167, 0, 9, 78, 4, 172, 78, 5, 172, 3, 172]
abbrev dktX0_cure_0 : List UInt8 := dkwX0_cure_0 ++ []
theorem dksX0_cure_0 : cX0_cure.data.toList.drop 0 = dktX0_cure_0 := by decide +kernel
theorem dX0_cure_0 : decode cX0_cure 0 = .ok (.aload_n 2, 1) := dk_44 (dk_at dksX0_cure_0 0 rfl rfl)
theorem dX0_cure_1 : decode cX0_cure 1 = .ok (.iconst 0, 1) := dk_3 (dk_at dksX0_cure_0 1 rfl rfl)
theorem dX0_cure_2 : decode cX0_cure 2 = .ok (.aload_n 0, 1) := dk_42 (dk_at dksX0_cure_0 2 rfl rfl)
theorem dX0_cure_3 : decode cX0_cure 3 = .ok (.iload_n 1, 1) := dk_27 (dk_at dksX0_cure_0 3 rfl rfl)
theorem dX0_cure_4 : decode cX0_cure 4 = .ok (.invokevirtual 86, 3) := dk_182 0 86 (dk_at dksX0_cure_0 4 rfl rfl)
theorem dX0_cure_7 : decode cX0_cure 7 = .ok (.i2l, 1) := dk_133 (dk_at dksX0_cure_0 7 rfl rfl)
theorem dX0_cure_8 : decode cX0_cure 8 = .ok (.lastore, 1) := dk_80 (dk_at dksX0_cure_0 8 rfl rfl)
theorem dX0_cure_9 : decode cX0_cure 9 = .ok (.goto 9, 3) := dk_167 0 9 (dk_at dksX0_cure_0 9 rfl rfl)
theorem dX0_cure_12 : decode cX0_cure 12 = .ok (.astore_n 3, 1) := dk_78 (dk_at dksX0_cure_0 12 rfl rfl)
theorem dX0_cure_13 : decode cX0_cure 13 = .ok (.iconst 1, 1) := dk_4 (dk_at dksX0_cure_0 13 rfl rfl)
theorem dX0_cure_14 : decode cX0_cure 14 = .ok (.ireturn, 1) := dk_172 (dk_at dksX0_cure_0 14 rfl rfl)
theorem dX0_cure_15 : decode cX0_cure 15 = .ok (.astore_n 3, 1) := dk_78 (dk_at dksX0_cure_0 15 rfl rfl)
theorem dX0_cure_16 : decode cX0_cure 16 = .ok (.iconst 2, 1) := dk_5 (dk_at dksX0_cure_0 16 rfl rfl)
theorem dX0_cure_17 : decode cX0_cure 17 = .ok (.ireturn, 1) := dk_172 (dk_at dksX0_cure_0 17 rfl rfl)
theorem dX0_cure_18 : decode cX0_cure 18 = .ok (.iconst 0, 1) := dk_3 (dk_at dksX0_cure_0 18 rfl rfl)
theorem dX0_cure_19 : decode cX0_cure 19 = .ok (.ireturn, 1) := dk_172 (dk_at dksX0_cure_0 19 rfl rfl)
abbrev cX0_statement : ByteArray := method_23_code
def yX0_statement : MethodName := ⟨RX0, "statement", "(LRoundingAuditor;IJI[J)I"⟩
def dkwX0_statement_1 : List UInt8 := [3, 172]
abbrev dktX0_statement_1 : List UInt8 := dkwX0_statement_1 ++ []
def dkwX0_statement_0 : List UInt8 := [25, 5, 3, 42, 27, 32, 21, 4, 182, 0, 89, 133, 80, 167, 0, 11, 58, 6, 4, 172, 58, 6, 5, 172]
abbrev dktX0_statement_0 : List UInt8 := dkwX0_statement_0 ++ dktX0_statement_1
theorem dksX0_statement_0 : cX0_statement.data.toList.drop 0 = dktX0_statement_0 := by decide +kernel
theorem dksX0_statement_1 : cX0_statement.data.toList.drop 24 = dktX0_statement_1 := dk_seg dksX0_statement_0 24 rfl rfl
theorem dX0_statement_0 : decode cX0_statement 0 = .ok (.aload 5, 2) := dk_25 5 (dk_at dksX0_statement_0 0 rfl rfl)
theorem dX0_statement_2 : decode cX0_statement 2 = .ok (.iconst 0, 1) := dk_3 (dk_at dksX0_statement_0 2 rfl rfl)
theorem dX0_statement_3 : decode cX0_statement 3 = .ok (.aload_n 0, 1) := dk_42 (dk_at dksX0_statement_0 3 rfl rfl)
theorem dX0_statement_4 : decode cX0_statement 4 = .ok (.iload_n 1, 1) := dk_27 (dk_at dksX0_statement_0 4 rfl rfl)
theorem dX0_statement_5 : decode cX0_statement 5 = .ok (.lload_n 2, 1) := dk_32 (dk_at dksX0_statement_0 5 rfl rfl)
theorem dX0_statement_6 : decode cX0_statement 6 = .ok (.iload 4, 2) := dk_21 4 (dk_at dksX0_statement_0 6 rfl rfl)
theorem dX0_statement_8 : decode cX0_statement 8 = .ok (.invokevirtual 89, 3) := dk_182 0 89 (dk_at dksX0_statement_0 8 rfl rfl)
theorem dX0_statement_11 : decode cX0_statement 11 = .ok (.i2l, 1) := dk_133 (dk_at dksX0_statement_0 11 rfl rfl)
theorem dX0_statement_12 : decode cX0_statement 12 = .ok (.lastore, 1) := dk_80 (dk_at dksX0_statement_0 12 rfl rfl)
theorem dX0_statement_13 : decode cX0_statement 13 = .ok (.goto 11, 3) := dk_167 0 11 (dk_at dksX0_statement_0 13 rfl rfl)
theorem dX0_statement_16 : decode cX0_statement 16 = .ok (.astore 6, 2) := dk_58 6 (dk_at dksX0_statement_0 16 rfl rfl)
theorem dX0_statement_18 : decode cX0_statement 18 = .ok (.iconst 1, 1) := dk_4 (dk_at dksX0_statement_0 18 rfl rfl)
theorem dX0_statement_19 : decode cX0_statement 19 = .ok (.ireturn, 1) := dk_172 (dk_at dksX0_statement_0 19 rfl rfl)
theorem dX0_statement_20 : decode cX0_statement 20 = .ok (.astore 6, 2) := dk_58 6 (dk_at dksX0_statement_0 20 rfl rfl)
theorem dX0_statement_22 : decode cX0_statement 22 = .ok (.iconst 2, 1) := dk_5 (dk_at dksX0_statement_0 22 rfl rfl)
theorem dX0_statement_23 : decode cX0_statement 23 = .ok (.ireturn, 1) := dk_172 (dk_at dksX0_statement_0 23 rfl rfl)
theorem dX0_statement_24 : decode cX0_statement 24 = .ok (.iconst 0, 1) := dk_3 (dk_at dksX0_statement_1 0 rfl rfl)
theorem dX0_statement_25 : decode cX0_statement 25 = .ok (.ireturn, 1) := dk_172 (dk_at dksX0_statement_1 1 rfl rfl)
abbrev cX0_split : ByteArray := method_24_code
def yX0_split : MethodName := ⟨RX0, "split", "(LRoundingAuditor;II[J)I"⟩
def dkwX0_split_0 : List UInt8 := [45, 3, 42, 27, 28, 182, 0, 93, 133, 80, 167, 0, 11, 58, 4, 4, 172, 58, 4, 5, 172, 3, 172]
abbrev dktX0_split_0 : List UInt8 := dkwX0_split_0 ++ []
theorem dksX0_split_0 : cX0_split.data.toList.drop 0 = dktX0_split_0 := by decide +kernel
theorem dX0_split_0 : decode cX0_split 0 = .ok (.aload_n 3, 1) := dk_45 (dk_at dksX0_split_0 0 rfl rfl)
theorem dX0_split_1 : decode cX0_split 1 = .ok (.iconst 0, 1) := dk_3 (dk_at dksX0_split_0 1 rfl rfl)
theorem dX0_split_2 : decode cX0_split 2 = .ok (.aload_n 0, 1) := dk_42 (dk_at dksX0_split_0 2 rfl rfl)
theorem dX0_split_3 : decode cX0_split 3 = .ok (.iload_n 1, 1) := dk_27 (dk_at dksX0_split_0 3 rfl rfl)
theorem dX0_split_4 : decode cX0_split 4 = .ok (.iload_n 2, 1) := dk_28 (dk_at dksX0_split_0 4 rfl rfl)
theorem dX0_split_5 : decode cX0_split 5 = .ok (.invokevirtual 93, 3) := dk_182 0 93 (dk_at dksX0_split_0 5 rfl rfl)
theorem dX0_split_8 : decode cX0_split 8 = .ok (.i2l, 1) := dk_133 (dk_at dksX0_split_0 8 rfl rfl)
theorem dX0_split_9 : decode cX0_split 9 = .ok (.lastore, 1) := dk_80 (dk_at dksX0_split_0 9 rfl rfl)
theorem dX0_split_10 : decode cX0_split 10 = .ok (.goto 11, 3) := dk_167 0 11 (dk_at dksX0_split_0 10 rfl rfl)
theorem dX0_split_13 : decode cX0_split 13 = .ok (.astore 4, 2) := dk_58 4 (dk_at dksX0_split_0 13 rfl rfl)
theorem dX0_split_15 : decode cX0_split 15 = .ok (.iconst 1, 1) := dk_4 (dk_at dksX0_split_0 15 rfl rfl)
theorem dX0_split_16 : decode cX0_split 16 = .ok (.ireturn, 1) := dk_172 (dk_at dksX0_split_0 16 rfl rfl)
theorem dX0_split_17 : decode cX0_split 17 = .ok (.astore 4, 2) := dk_58 4 (dk_at dksX0_split_0 17 rfl rfl)
theorem dX0_split_19 : decode cX0_split 19 = .ok (.iconst 2, 1) := dk_5 (dk_at dksX0_split_0 19 rfl rfl)
theorem dX0_split_20 : decode cX0_split 20 = .ok (.ireturn, 1) := dk_172 (dk_at dksX0_split_0 20 rfl rfl)
theorem dX0_split_21 : decode cX0_split 21 = .ok (.iconst 0, 1) := dk_3 (dk_at dksX0_split_0 21 rfl rfl)
theorem dX0_split_22 : decode cX0_split 22 = .ok (.ireturn, 1) := dk_172 (dk_at dksX0_split_0 22 rfl rfl)
abbrev cX0_sign : ByteArray := method_25_code
def yX0_sign : MethodName := ⟨RX0, "sign", "(LRoundingAuditor;III[J)I"⟩
def dkwX0_sign_1 : List UInt8 := [172]
abbrev dktX0_sign_1 : List UInt8 := dkwX0_sign_1 ++ []
def dkwX0_sign_0 : List UInt8 := [25, 4, 3, 42, 27, 28, 29, 182, 0, 96, 133, 80, 167, 0, 11, 58, 5, 4, 172, 58, 5, 5, 172, 3]
abbrev dktX0_sign_0 : List UInt8 := dkwX0_sign_0 ++ dktX0_sign_1
theorem dksX0_sign_0 : cX0_sign.data.toList.drop 0 = dktX0_sign_0 := by decide +kernel
theorem dksX0_sign_1 : cX0_sign.data.toList.drop 24 = dktX0_sign_1 := dk_seg dksX0_sign_0 24 rfl rfl
theorem dX0_sign_0 : decode cX0_sign 0 = .ok (.aload 4, 2) := dk_25 4 (dk_at dksX0_sign_0 0 rfl rfl)
theorem dX0_sign_2 : decode cX0_sign 2 = .ok (.iconst 0, 1) := dk_3 (dk_at dksX0_sign_0 2 rfl rfl)
theorem dX0_sign_3 : decode cX0_sign 3 = .ok (.aload_n 0, 1) := dk_42 (dk_at dksX0_sign_0 3 rfl rfl)
theorem dX0_sign_4 : decode cX0_sign 4 = .ok (.iload_n 1, 1) := dk_27 (dk_at dksX0_sign_0 4 rfl rfl)
theorem dX0_sign_5 : decode cX0_sign 5 = .ok (.iload_n 2, 1) := dk_28 (dk_at dksX0_sign_0 5 rfl rfl)
theorem dX0_sign_6 : decode cX0_sign 6 = .ok (.iload_n 3, 1) := dk_29 (dk_at dksX0_sign_0 6 rfl rfl)
theorem dX0_sign_7 : decode cX0_sign 7 = .ok (.invokevirtual 96, 3) := dk_182 0 96 (dk_at dksX0_sign_0 7 rfl rfl)
theorem dX0_sign_10 : decode cX0_sign 10 = .ok (.i2l, 1) := dk_133 (dk_at dksX0_sign_0 10 rfl rfl)
theorem dX0_sign_11 : decode cX0_sign 11 = .ok (.lastore, 1) := dk_80 (dk_at dksX0_sign_0 11 rfl rfl)
theorem dX0_sign_12 : decode cX0_sign 12 = .ok (.goto 11, 3) := dk_167 0 11 (dk_at dksX0_sign_0 12 rfl rfl)
theorem dX0_sign_15 : decode cX0_sign 15 = .ok (.astore 5, 2) := dk_58 5 (dk_at dksX0_sign_0 15 rfl rfl)
theorem dX0_sign_17 : decode cX0_sign 17 = .ok (.iconst 1, 1) := dk_4 (dk_at dksX0_sign_0 17 rfl rfl)
theorem dX0_sign_18 : decode cX0_sign 18 = .ok (.ireturn, 1) := dk_172 (dk_at dksX0_sign_0 18 rfl rfl)
theorem dX0_sign_19 : decode cX0_sign 19 = .ok (.astore 5, 2) := dk_58 5 (dk_at dksX0_sign_0 19 rfl rfl)
theorem dX0_sign_21 : decode cX0_sign 21 = .ok (.iconst 2, 1) := dk_5 (dk_at dksX0_sign_0 21 rfl rfl)
theorem dX0_sign_22 : decode cX0_sign 22 = .ok (.ireturn, 1) := dk_172 (dk_at dksX0_sign_0 22 rfl rfl)
theorem dX0_sign_23 : decode cX0_sign 23 = .ok (.iconst 0, 1) := dk_3 (dk_at dksX0_sign_0 23 rfl rfl)
theorem dX0_sign_24 : decode cX0_sign 24 = .ok (.ireturn, 1) := dk_172 (dk_at dksX0_sign_1 0 rfl rfl)
theorem q64 : (Jvm.Cond.initialized "RoundingAuditorLaw") ∈ lw_all := lw_g (lw_at lw_m1 0 rfl) rfl
theorem q112 : (Jvm.Cond.classLink "RoundingAuditorLaw" (8 : Nat) "RoundingAuditor") ∈ lw_all := lw_g (lw_at lw_m1 48 rfl) rfl
theorem q114 : (Jvm.Cond.methodLink "RoundingAuditorLaw" (99 : Nat) ({ cls := "RoundingAuditor", name := "<init>", desc := "()V" } : Jvm.MethodName)) ∈ lw_all := lw_g (lw_at lw_m1 50 rfl) rfl
theorem q181 : (Jvm.Cond.methodLink "RoundingAuditorLaw" (158 : Nat) ({ cls := "RoundingAuditor", name := "total", desc := "(I)J" } : Jvm.MethodName)) ∈ lw_all := lw_g (lw_at lw_m1 117 rfl) rfl
theorem q247 : (Jvm.Cond.methodLink "RoundingAuditorLaw" (162 : Nat) ({ cls := "RoundingAuditor", name := "steps", desc := "(I)I" } : Jvm.MethodName)) ∈ lw_all := lw_g (lw_at lw_m1 183 rfl) rfl
theorem q251 : (Jvm.Cond.methodLink "RoundingAuditorLaw" (166 : Nat) ({ cls := "RoundingAuditor", name := "step", desc := "(III)J" } : Jvm.MethodName)) ∈ lw_all := lw_g (lw_at lw_m1 187 rfl) rfl
theorem q316 : (Jvm.Cond.methodLink "RoundingAuditorLaw" (170 : Nat) ({ cls := "RoundingAuditor", name := "story", desc := "(II)I" } : Jvm.MethodName)) ∈ lw_all := lw_g (lw_at lw_m2 12 rfl) rfl
theorem q333 : (Jvm.Cond.methodLink "RoundingAuditorLaw" (174 : Nat) ({ cls := "RoundingAuditor", name := "worst", desc := "(I)I" } : Jvm.MethodName)) ∈ lw_all := lw_g (lw_at lw_m2 29 rfl) rfl
theorem q350 : (Jvm.Cond.methodLink "RoundingAuditorLaw" (178 : Nat) ({ cls := "RoundingAuditor", name := "off", desc := "(II)I" } : Jvm.MethodName)) ∈ lw_all := lw_g (lw_at lw_m2 46 rfl) rfl
theorem q362 : (Jvm.Cond.methodLink "RoundingAuditorLaw" (182 : Nat) ({ cls := "RoundingAuditor", name := "parts", desc := "(II)I" } : Jvm.MethodName)) ∈ lw_all := lw_g (lw_at lw_m2 58 rfl) rfl
theorem q367 : (Jvm.Cond.methodLink "RoundingAuditorLaw" (186 : Nat) ({ cls := "RoundingAuditor", name := "clear", desc := "()I" } : Jvm.MethodName)) ∈ lw_all := lw_g (lw_at lw_m2 63 rfl) rfl
theorem q380 : (Jvm.Cond.methodLink "RoundingAuditorLaw" (211 : Nat) ({ cls := "RoundingAuditor", name := "cured", desc := "(I)I" } : Jvm.MethodName)) ∈ lw_all := lw_g (lw_at lw_m2 76 rfl) rfl
theorem q384 : (Jvm.Cond.methodLink "RoundingAuditorLaw" (222 : Nat) ({ cls := "RoundingAuditor", name := "share", desc := "(I)I" } : Jvm.MethodName)) ∈ lw_all := lw_g (lw_at lw_m2 80 rfl) rfl
theorem q389 : (Jvm.Cond.methodLink "RoundingAuditorLaw" (103 : Nat) ({ cls := "RoundingAuditorLaw", name := "ledger", desc := "(LRoundingAuditor;IZI[J)I" } : Jvm.MethodName)) ∈ lw_all := lw_g (lw_at lw_m2 85 rfl) rfl
theorem q390 : (Jvm.Cond.static ({ cls := "RoundingAuditorLaw", name := "ledger", desc := "(LRoundingAuditor;IZI[J)I" } : Jvm.MethodName)) ∈ lw_all := lw_g (lw_at lw_m2 86 rfl) rfl
theorem q391 : (Jvm.Cond.codeWith ({ cls := "RoundingAuditorLaw", name := "ledger", desc := "(LRoundingAuditor;IZI[J)I" } : Jvm.MethodName) method_3_code (6 : Nat) (Option.some Jvm.ClassFile.FieldType.int) [((0 : Nat), (12 : Nat), (15 : Nat), (13 : Nat)), ((0 : Nat), (12 : Nat), (19 : Nat), (15 : Nat))]) ∈ lw_all := lw_g (lw_at lw_m2 87 rfl) rfl
theorem q392 : (Jvm.Cond.classLink "RoundingAuditorLaw" (13 : Nat) "java/lang/ArrayIndexOutOfBoundsException") ∈ lw_all := lw_g (lw_at lw_m2 88 rfl) rfl
theorem q483 : (Jvm.Cond.classLink "RoundingAuditorLaw" (15 : Nat) "java/lang/NegativeArraySizeException") ∈ lw_all := lw_g (lw_at lw_m2 179 rfl) rfl
theorem q497 : (Jvm.Cond.methodLink "RoundingAuditorLaw" (7 : Nat) ({ cls := "RoundingAuditor", name := "ledger", desc := "(IZI)I" } : Jvm.MethodName)) ∈ lw_all := lw_g (lw_at lw_m2 193 rfl) rfl
theorem q545 : (Jvm.Cond.methodLink "RoundingAuditorLaw" (115 : Nat) ({ cls := "RoundingAuditorLaw", name := "set", desc := "(LRoundingAuditor;IIJ[J)I" } : Jvm.MethodName)) ∈ lw_all := lw_g (lw_at lw_m3 1 rfl) rfl
theorem q546 : (Jvm.Cond.static ({ cls := "RoundingAuditorLaw", name := "set", desc := "(LRoundingAuditor;IIJ[J)I" } : Jvm.MethodName)) ∈ lw_all := lw_g (lw_at lw_m3 2 rfl) rfl
theorem q547 : (Jvm.Cond.codeWith ({ cls := "RoundingAuditorLaw", name := "set", desc := "(LRoundingAuditor;IIJ[J)I" } : Jvm.MethodName) method_4_code (7 : Nat) (Option.some Jvm.ClassFile.FieldType.int) [((0 : Nat), (12 : Nat), (15 : Nat), (21 : Nat)), ((0 : Nat), (12 : Nat), (19 : Nat), (13 : Nat))]) ∈ lw_all := lw_g (lw_at lw_m3 3 rfl) rfl
theorem q548 : (Jvm.Cond.classLink "RoundingAuditorLaw" (21 : Nat) "java/lang/NullPointerException") ∈ lw_all := lw_g (lw_at lw_m3 4 rfl) rfl
theorem q573 : (Jvm.Cond.methodLink "RoundingAuditorLaw" (17 : Nat) ({ cls := "RoundingAuditor", name := "set", desc := "(IIJ)I" } : Jvm.MethodName)) ∈ lw_all := lw_g (lw_at lw_m3 29 rfl) rfl
theorem q596 : (Jvm.Cond.methodLink "RoundingAuditorLaw" (119 : Nat) ({ cls := "RoundingAuditorLaw", name := "book", desc := "(LRoundingAuditor;IIII[J)I" } : Jvm.MethodName)) ∈ lw_all := lw_g (lw_at lw_m3 52 rfl) rfl
theorem q597 : (Jvm.Cond.static ({ cls := "RoundingAuditorLaw", name := "book", desc := "(LRoundingAuditor;IIII[J)I" } : Jvm.MethodName)) ∈ lw_all := lw_g (lw_at lw_m3 53 rfl) rfl
theorem q598 : (Jvm.Cond.codeWith ({ cls := "RoundingAuditorLaw", name := "book", desc := "(LRoundingAuditor;IIII[J)I" } : Jvm.MethodName) method_5_code (7 : Nat) (Option.some Jvm.ClassFile.FieldType.int) [((0 : Nat), (14 : Nat), (17 : Nat), (21 : Nat)), ((0 : Nat), (14 : Nat), (21 : Nat), (13 : Nat))]) ∈ lw_all := lw_g (lw_at lw_m3 54 rfl) rfl
theorem q599 : (Jvm.Cond.methodLink "RoundingAuditorLaw" (23 : Nat) ({ cls := "RoundingAuditor", name := "book", desc := "(IIII)I" } : Jvm.MethodName)) ∈ lw_all := lw_g (lw_at lw_m3 55 rfl) rfl
theorem q610 : (Jvm.Cond.methodLink "RoundingAuditorLaw" (123 : Nat) ({ cls := "RoundingAuditorLaw", name := "amount", desc := "(LRoundingAuditor;II[J)I" } : Jvm.MethodName)) ∈ lw_all := lw_g (lw_at lw_m3 66 rfl) rfl
theorem q611 : (Jvm.Cond.static ({ cls := "RoundingAuditorLaw", name := "amount", desc := "(LRoundingAuditor;II[J)I" } : Jvm.MethodName)) ∈ lw_all := lw_g (lw_at lw_m3 67 rfl) rfl
theorem q612 : (Jvm.Cond.codeWith ({ cls := "RoundingAuditorLaw", name := "amount", desc := "(LRoundingAuditor;II[J)I" } : Jvm.MethodName) method_6_code (5 : Nat) (Option.some Jvm.ClassFile.FieldType.int) [((0 : Nat), (9 : Nat), (12 : Nat), (21 : Nat)), ((0 : Nat), (9 : Nat), (16 : Nat), (13 : Nat))]) ∈ lw_all := lw_g (lw_at lw_m3 68 rfl) rfl
theorem q613 : (Jvm.Cond.methodLink "RoundingAuditorLaw" (27 : Nat) ({ cls := "RoundingAuditor", name := "amount", desc := "(II)J" } : Jvm.MethodName)) ∈ lw_all := lw_g (lw_at lw_m3 69 rfl) rfl
theorem q635 : (Jvm.Cond.methodLink "RoundingAuditorLaw" (127 : Nat) ({ cls := "RoundingAuditorLaw", name := "entry", desc := "(LRoundingAuditor;III[J)I" } : Jvm.MethodName)) ∈ lw_all := lw_g (lw_at lw_m3 91 rfl) rfl
theorem q636 : (Jvm.Cond.static ({ cls := "RoundingAuditorLaw", name := "entry", desc := "(LRoundingAuditor;III[J)I" } : Jvm.MethodName)) ∈ lw_all := lw_g (lw_at lw_m3 92 rfl) rfl
theorem q637 : (Jvm.Cond.codeWith ({ cls := "RoundingAuditorLaw", name := "entry", desc := "(LRoundingAuditor;III[J)I" } : Jvm.MethodName) method_7_code (6 : Nat) (Option.some Jvm.ClassFile.FieldType.int) [((0 : Nat), (12 : Nat), (15 : Nat), (21 : Nat)), ((0 : Nat), (12 : Nat), (19 : Nat), (13 : Nat))]) ∈ lw_all := lw_g (lw_at lw_m3 93 rfl) rfl
theorem q638 : (Jvm.Cond.methodLink "RoundingAuditorLaw" (31 : Nat) ({ cls := "RoundingAuditor", name := "entry", desc := "(III)I" } : Jvm.MethodName)) ∈ lw_all := lw_g (lw_at lw_m3 94 rfl) rfl
theorem q654 : (Jvm.Cond.methodLink "RoundingAuditorLaw" (131 : Nat) ({ cls := "RoundingAuditorLaw", name := "about", desc := "(LRoundingAuditor;II[J)I" } : Jvm.MethodName)) ∈ lw_all := lw_g (lw_at lw_m3 110 rfl) rfl
theorem q655 : (Jvm.Cond.static ({ cls := "RoundingAuditorLaw", name := "about", desc := "(LRoundingAuditor;II[J)I" } : Jvm.MethodName)) ∈ lw_all := lw_g (lw_at lw_m3 111 rfl) rfl
theorem q656 : (Jvm.Cond.codeWith ({ cls := "RoundingAuditorLaw", name := "about", desc := "(LRoundingAuditor;II[J)I" } : Jvm.MethodName) method_8_code (5 : Nat) (Option.some Jvm.ClassFile.FieldType.int) [((0 : Nat), (10 : Nat), (13 : Nat), (21 : Nat)), ((0 : Nat), (10 : Nat), (17 : Nat), (13 : Nat))]) ∈ lw_all := lw_g (lw_at lw_m3 112 rfl) rfl
theorem q657 : (Jvm.Cond.methodLink "RoundingAuditorLaw" (35 : Nat) ({ cls := "RoundingAuditor", name := "about", desc := "(II)I" } : Jvm.MethodName)) ∈ lw_all := lw_g (lw_at lw_m3 113 rfl) rfl
theorem q703 : (Jvm.Cond.methodLink "RoundingAuditorLaw" (134 : Nat) ({ cls := "RoundingAuditorLaw", name := "filter", desc := "(LRoundingAuditor;III[J)I" } : Jvm.MethodName)) ∈ lw_all := lw_g (lw_at lw_m3 159 rfl) rfl
theorem q704 : (Jvm.Cond.static ({ cls := "RoundingAuditorLaw", name := "filter", desc := "(LRoundingAuditor;III[J)I" } : Jvm.MethodName)) ∈ lw_all := lw_g (lw_at lw_m3 160 rfl) rfl
theorem q705 : (Jvm.Cond.codeWith ({ cls := "RoundingAuditorLaw", name := "filter", desc := "(LRoundingAuditor;III[J)I" } : Jvm.MethodName) method_9_code (6 : Nat) (Option.some Jvm.ClassFile.FieldType.int) [((0 : Nat), (12 : Nat), (15 : Nat), (21 : Nat)), ((0 : Nat), (12 : Nat), (19 : Nat), (13 : Nat))]) ∈ lw_all := lw_g (lw_at lw_m3 161 rfl) rfl
theorem q706 : (Jvm.Cond.methodLink "RoundingAuditorLaw" (39 : Nat) ({ cls := "RoundingAuditor", name := "filter", desc := "(III)I" } : Jvm.MethodName)) ∈ lw_all := lw_g (lw_at lw_m3 162 rfl) rfl
theorem q736 : (Jvm.Cond.methodLink "RoundingAuditorLaw" (137 : Nat) ({ cls := "RoundingAuditorLaw", name := "mix", desc := "(LRoundingAuditor;III[J)I" } : Jvm.MethodName)) ∈ lw_all := lw_g (lw_at lw_m3 192 rfl) rfl
theorem q737 : (Jvm.Cond.static ({ cls := "RoundingAuditorLaw", name := "mix", desc := "(LRoundingAuditor;III[J)I" } : Jvm.MethodName)) ∈ lw_all := lw_g (lw_at lw_m3 193 rfl) rfl
theorem q738 : (Jvm.Cond.codeWith ({ cls := "RoundingAuditorLaw", name := "mix", desc := "(LRoundingAuditor;III[J)I" } : Jvm.MethodName) method_10_code (6 : Nat) (Option.some Jvm.ClassFile.FieldType.int) [((0 : Nat), (12 : Nat), (15 : Nat), (21 : Nat)), ((0 : Nat), (12 : Nat), (19 : Nat), (13 : Nat))]) ∈ lw_all := lw_g (lw_at lw_m3 194 rfl) rfl
theorem q739 : (Jvm.Cond.methodLink "RoundingAuditorLaw" (42 : Nat) ({ cls := "RoundingAuditor", name := "mix", desc := "(III)I" } : Jvm.MethodName)) ∈ lw_all := lw_g (lw_at lw_m3 195 rfl) rfl
theorem q743 : (Jvm.Cond.methodLink "RoundingAuditorLaw" (140 : Nat) ({ cls := "RoundingAuditorLaw", name := "same", desc := "(LRoundingAuditor;II[J)I" } : Jvm.MethodName)) ∈ lw_all := lw_g (lw_at lw_m3 199 rfl) rfl
theorem q744 : (Jvm.Cond.static ({ cls := "RoundingAuditorLaw", name := "same", desc := "(LRoundingAuditor;II[J)I" } : Jvm.MethodName)) ∈ lw_all := lw_g (lw_at lw_m3 200 rfl) rfl
theorem q745 : (Jvm.Cond.codeWith ({ cls := "RoundingAuditorLaw", name := "same", desc := "(LRoundingAuditor;II[J)I" } : Jvm.MethodName) method_11_code (5 : Nat) (Option.some Jvm.ClassFile.FieldType.int) [((0 : Nat), (10 : Nat), (13 : Nat), (21 : Nat)), ((0 : Nat), (10 : Nat), (17 : Nat), (13 : Nat))]) ∈ lw_all := lw_g (lw_at lw_m3 201 rfl) rfl
theorem q746 : (Jvm.Cond.methodLink "RoundingAuditorLaw" (45 : Nat) ({ cls := "RoundingAuditor", name := "same", desc := "(II)I" } : Jvm.MethodName)) ∈ lw_all := lw_g (lw_at lw_m3 202 rfl) rfl
theorem q758 : (Jvm.Cond.methodLink "RoundingAuditorLaw" (143 : Nat) ({ cls := "RoundingAuditorLaw", name := "worked", desc := "(LRoundingAuditor;IIII[J)I" } : Jvm.MethodName)) ∈ lw_all := lw_g (lw_at lw_m3 214 rfl) rfl
theorem q759 : (Jvm.Cond.static ({ cls := "RoundingAuditorLaw", name := "worked", desc := "(LRoundingAuditor;IIII[J)I" } : Jvm.MethodName)) ∈ lw_all := lw_g (lw_at lw_m3 215 rfl) rfl
theorem q760 : (Jvm.Cond.codeWith ({ cls := "RoundingAuditorLaw", name := "worked", desc := "(LRoundingAuditor;IIII[J)I" } : Jvm.MethodName) method_12_code (7 : Nat) (Option.some Jvm.ClassFile.FieldType.int) [((0 : Nat), (13 : Nat), (16 : Nat), (21 : Nat)), ((0 : Nat), (13 : Nat), (20 : Nat), (13 : Nat)), ((0 : Nat), (13 : Nat), (24 : Nat), (52 : Nat))]) ∈ lw_all := lw_g (lw_at lw_m3 216 rfl) rfl
theorem q761 : (Jvm.Cond.classLink "RoundingAuditorLaw" (52 : Nat) "java/lang/ArithmeticException") ∈ lw_all := lw_g (lw_at lw_m3 217 rfl) rfl
theorem q775 : (Jvm.Cond.methodLink "RoundingAuditorLaw" (48 : Nat) ({ cls := "RoundingAuditor", name := "worked", desc := "(IIII)J" } : Jvm.MethodName)) ∈ lw_all := lw_g (lw_at lw_m3 231 rfl) rfl
theorem q860 : (Jvm.Cond.methodLink "RoundingAuditorLaw" (146 : Nat) ({ cls := "RoundingAuditorLaw", name := "whole", desc := "(LRoundingAuditor;III[J)I" } : Jvm.MethodName)) ∈ lw_all := lw_g (lw_at lw_m4 76 rfl) rfl
theorem q861 : (Jvm.Cond.static ({ cls := "RoundingAuditorLaw", name := "whole", desc := "(LRoundingAuditor;III[J)I" } : Jvm.MethodName)) ∈ lw_all := lw_g (lw_at lw_m4 77 rfl) rfl
theorem q862 : (Jvm.Cond.codeWith ({ cls := "RoundingAuditorLaw", name := "whole", desc := "(LRoundingAuditor;III[J)I" } : Jvm.MethodName) method_13_code (6 : Nat) (Option.some Jvm.ClassFile.FieldType.int) [((0 : Nat), (11 : Nat), (14 : Nat), (21 : Nat)), ((0 : Nat), (11 : Nat), (18 : Nat), (13 : Nat))]) ∈ lw_all := lw_g (lw_at lw_m4 78 rfl) rfl
theorem q863 : (Jvm.Cond.methodLink "RoundingAuditorLaw" (54 : Nat) ({ cls := "RoundingAuditor", name := "whole", desc := "(III)J" } : Jvm.MethodName)) ∈ lw_all := lw_g (lw_at lw_m4 79 rfl) rfl
theorem q877 : (Jvm.Cond.methodLink "RoundingAuditorLaw" (149 : Nat) ({ cls := "RoundingAuditorLaw", name := "units", desc := "(LRoundingAuditor;III[J)I" } : Jvm.MethodName)) ∈ lw_all := lw_g (lw_at lw_m4 93 rfl) rfl
theorem q878 : (Jvm.Cond.static ({ cls := "RoundingAuditorLaw", name := "units", desc := "(LRoundingAuditor;III[J)I" } : Jvm.MethodName)) ∈ lw_all := lw_g (lw_at lw_m4 94 rfl) rfl
theorem q879 : (Jvm.Cond.codeWith ({ cls := "RoundingAuditorLaw", name := "units", desc := "(LRoundingAuditor;III[J)I" } : Jvm.MethodName) method_14_code (6 : Nat) (Option.some Jvm.ClassFile.FieldType.int) [((0 : Nat), (11 : Nat), (14 : Nat), (21 : Nat)), ((0 : Nat), (11 : Nat), (18 : Nat), (13 : Nat))]) ∈ lw_all := lw_g (lw_at lw_m4 95 rfl) rfl
theorem q880 : (Jvm.Cond.methodLink "RoundingAuditorLaw" (58 : Nat) ({ cls := "RoundingAuditor", name := "units", desc := "(III)J" } : Jvm.MethodName)) ∈ lw_all := lw_g (lw_at lw_m4 96 rfl) rfl
theorem q912 : (Jvm.Cond.methodLink "RoundingAuditorLaw" (152 : Nat) ({ cls := "RoundingAuditorLaw", name := "give", desc := "(LRoundingAuditor;II[J)I" } : Jvm.MethodName)) ∈ lw_all := lw_g (lw_at lw_m4 128 rfl) rfl
theorem q913 : (Jvm.Cond.static ({ cls := "RoundingAuditorLaw", name := "give", desc := "(LRoundingAuditor;II[J)I" } : Jvm.MethodName)) ∈ lw_all := lw_g (lw_at lw_m4 129 rfl) rfl
theorem q914 : (Jvm.Cond.codeWith ({ cls := "RoundingAuditorLaw", name := "give", desc := "(LRoundingAuditor;II[J)I" } : Jvm.MethodName) method_15_code (5 : Nat) (Option.some Jvm.ClassFile.FieldType.int) [((0 : Nat), (10 : Nat), (13 : Nat), (21 : Nat)), ((0 : Nat), (10 : Nat), (17 : Nat), (13 : Nat))]) ∈ lw_all := lw_g (lw_at lw_m4 130 rfl) rfl
theorem q915 : (Jvm.Cond.methodLink "RoundingAuditorLaw" (61 : Nat) ({ cls := "RoundingAuditor", name := "give", desc := "(II)I" } : Jvm.MethodName)) ∈ lw_all := lw_g (lw_at lw_m4 131 rfl) rfl
theorem q931 : (Jvm.Cond.methodLink "RoundingAuditorLaw" (155 : Nat) ({ cls := "RoundingAuditorLaw", name := "run", desc := "(LRoundingAuditor;III[J)I" } : Jvm.MethodName)) ∈ lw_all := lw_g (lw_at lw_m4 147 rfl) rfl
theorem q932 : (Jvm.Cond.static ({ cls := "RoundingAuditorLaw", name := "run", desc := "(LRoundingAuditor;III[J)I" } : Jvm.MethodName)) ∈ lw_all := lw_g (lw_at lw_m4 148 rfl) rfl
theorem q933 : (Jvm.Cond.codeWith ({ cls := "RoundingAuditorLaw", name := "run", desc := "(LRoundingAuditor;III[J)I" } : Jvm.MethodName) method_16_code (6 : Nat) (Option.some Jvm.ClassFile.FieldType.int) [((0 : Nat), (12 : Nat), (15 : Nat), (21 : Nat)), ((0 : Nat), (12 : Nat), (19 : Nat), (13 : Nat))]) ∈ lw_all := lw_g (lw_at lw_m4 149 rfl) rfl
theorem q934 : (Jvm.Cond.methodLink "RoundingAuditorLaw" (64 : Nat) ({ cls := "RoundingAuditor", name := "run", desc := "(III)I" } : Jvm.MethodName)) ∈ lw_all := lw_g (lw_at lw_m4 150 rfl) rfl
theorem q1366 : (Jvm.Cond.methodLink "RoundingAuditorLaw" (190 : Nat) ({ cls := "RoundingAuditorLaw", name := "compare", desc := "(LRoundingAuditor;IJ[J)I" } : Jvm.MethodName)) ∈ lw_all := lw_g (lw_at lw_m6 102 rfl) rfl
theorem q1367 : (Jvm.Cond.static ({ cls := "RoundingAuditorLaw", name := "compare", desc := "(LRoundingAuditor;IJ[J)I" } : Jvm.MethodName)) ∈ lw_all := lw_g (lw_at lw_m6 103 rfl) rfl
theorem q1368 : (Jvm.Cond.codeWith ({ cls := "RoundingAuditorLaw", name := "compare", desc := "(LRoundingAuditor;IJ[J)I" } : Jvm.MethodName) method_17_code (6 : Nat) (Option.some Jvm.ClassFile.FieldType.int) [((0 : Nat), (11 : Nat), (14 : Nat), (21 : Nat)), ((0 : Nat), (11 : Nat), (18 : Nat), (13 : Nat))]) ∈ lw_all := lw_g (lw_at lw_m6 104 rfl) rfl
theorem q1369 : (Jvm.Cond.methodLink "RoundingAuditorLaw" (67 : Nat) ({ cls := "RoundingAuditor", name := "compare", desc := "(IJ)I" } : Jvm.MethodName)) ∈ lw_all := lw_g (lw_at lw_m6 105 rfl) rfl
theorem q1379 : (Jvm.Cond.methodLink "RoundingAuditorLaw" (194 : Nat) ({ cls := "RoundingAuditorLaw", name := "rounded", desc := "(LRoundingAuditor;I[J)I" } : Jvm.MethodName)) ∈ lw_all := lw_g (lw_at lw_m6 115 rfl) rfl
theorem q1380 : (Jvm.Cond.static ({ cls := "RoundingAuditorLaw", name := "rounded", desc := "(LRoundingAuditor;I[J)I" } : Jvm.MethodName)) ∈ lw_all := lw_g (lw_at lw_m6 116 rfl) rfl
theorem q1381 : (Jvm.Cond.codeWith ({ cls := "RoundingAuditorLaw", name := "rounded", desc := "(LRoundingAuditor;I[J)I" } : Jvm.MethodName) method_18_code (4 : Nat) (Option.some Jvm.ClassFile.FieldType.int) [((0 : Nat), (8 : Nat), (11 : Nat), (21 : Nat)), ((0 : Nat), (8 : Nat), (14 : Nat), (13 : Nat))]) ∈ lw_all := lw_g (lw_at lw_m6 117 rfl) rfl
theorem q1382 : (Jvm.Cond.methodLink "RoundingAuditorLaw" (71 : Nat) ({ cls := "RoundingAuditor", name := "rounded", desc := "(I)J" } : Jvm.MethodName)) ∈ lw_all := lw_g (lw_at lw_m6 118 rfl) rfl
theorem q1409 : (Jvm.Cond.methodLink "RoundingAuditorLaw" (198 : Nat) ({ cls := "RoundingAuditorLaw", name := "word", desc := "(LRoundingAuditor;II[J)I" } : Jvm.MethodName)) ∈ lw_all := lw_g (lw_at lw_m6 145 rfl) rfl
theorem q1410 : (Jvm.Cond.static ({ cls := "RoundingAuditorLaw", name := "word", desc := "(LRoundingAuditor;II[J)I" } : Jvm.MethodName)) ∈ lw_all := lw_g (lw_at lw_m6 146 rfl) rfl
theorem q1411 : (Jvm.Cond.codeWith ({ cls := "RoundingAuditorLaw", name := "word", desc := "(LRoundingAuditor;II[J)I" } : Jvm.MethodName) method_19_code (5 : Nat) (Option.some Jvm.ClassFile.FieldType.int) [((0 : Nat), (10 : Nat), (13 : Nat), (21 : Nat)), ((0 : Nat), (10 : Nat), (17 : Nat), (13 : Nat))]) ∈ lw_all := lw_g (lw_at lw_m6 147 rfl) rfl
theorem q1412 : (Jvm.Cond.methodLink "RoundingAuditorLaw" (75 : Nat) ({ cls := "RoundingAuditor", name := "word", desc := "(II)I" } : Jvm.MethodName)) ∈ lw_all := lw_g (lw_at lw_m6 148 rfl) rfl
theorem q1421 : (Jvm.Cond.methodLink "RoundingAuditorLaw" (201 : Nat) ({ cls := "RoundingAuditorLaw", name := "extreme", desc := "(LRoundingAuditor;IZ[J)I" } : Jvm.MethodName)) ∈ lw_all := lw_g (lw_at lw_m6 157 rfl) rfl
theorem q1422 : (Jvm.Cond.static ({ cls := "RoundingAuditorLaw", name := "extreme", desc := "(LRoundingAuditor;IZ[J)I" } : Jvm.MethodName)) ∈ lw_all := lw_g (lw_at lw_m6 158 rfl) rfl
theorem q1423 : (Jvm.Cond.codeWith ({ cls := "RoundingAuditorLaw", name := "extreme", desc := "(LRoundingAuditor;IZ[J)I" } : Jvm.MethodName) method_20_code (5 : Nat) (Option.some Jvm.ClassFile.FieldType.int) [((0 : Nat), (9 : Nat), (12 : Nat), (21 : Nat)), ((0 : Nat), (9 : Nat), (16 : Nat), (13 : Nat))]) ∈ lw_all := lw_g (lw_at lw_m6 159 rfl) rfl
theorem q1424 : (Jvm.Cond.methodLink "RoundingAuditorLaw" (78 : Nat) ({ cls := "RoundingAuditor", name := "extreme", desc := "(IZ)J" } : Jvm.MethodName)) ∈ lw_all := lw_g (lw_at lw_m6 160 rfl) rfl
theorem q1472 : (Jvm.Cond.methodLink "RoundingAuditorLaw" (205 : Nat) ({ cls := "RoundingAuditorLaw", name := "reach", desc := "(LRoundingAuditor;I[J)I" } : Jvm.MethodName)) ∈ lw_all := lw_g (lw_at lw_m6 208 rfl) rfl
theorem q1473 : (Jvm.Cond.static ({ cls := "RoundingAuditorLaw", name := "reach", desc := "(LRoundingAuditor;I[J)I" } : Jvm.MethodName)) ∈ lw_all := lw_g (lw_at lw_m6 209 rfl) rfl
theorem q1474 : (Jvm.Cond.codeWith ({ cls := "RoundingAuditorLaw", name := "reach", desc := "(LRoundingAuditor;I[J)I" } : Jvm.MethodName) method_21_code (4 : Nat) (Option.some Jvm.ClassFile.FieldType.int) [((0 : Nat), (9 : Nat), (12 : Nat), (21 : Nat)), ((0 : Nat), (9 : Nat), (15 : Nat), (13 : Nat))]) ∈ lw_all := lw_g (lw_at lw_m6 210 rfl) rfl
theorem q1475 : (Jvm.Cond.methodLink "RoundingAuditorLaw" (82 : Nat) ({ cls := "RoundingAuditor", name := "reach", desc := "(I)I" } : Jvm.MethodName)) ∈ lw_all := lw_g (lw_at lw_m6 211 rfl) rfl
theorem q1479 : (Jvm.Cond.methodLink "RoundingAuditorLaw" (208 : Nat) ({ cls := "RoundingAuditorLaw", name := "cure", desc := "(LRoundingAuditor;I[J)I" } : Jvm.MethodName)) ∈ lw_all := lw_g (lw_at lw_m6 215 rfl) rfl
theorem q1480 : (Jvm.Cond.static ({ cls := "RoundingAuditorLaw", name := "cure", desc := "(LRoundingAuditor;I[J)I" } : Jvm.MethodName)) ∈ lw_all := lw_g (lw_at lw_m6 216 rfl) rfl
theorem q1481 : (Jvm.Cond.codeWith ({ cls := "RoundingAuditorLaw", name := "cure", desc := "(LRoundingAuditor;I[J)I" } : Jvm.MethodName) method_22_code (4 : Nat) (Option.some Jvm.ClassFile.FieldType.int) [((0 : Nat), (9 : Nat), (12 : Nat), (21 : Nat)), ((0 : Nat), (9 : Nat), (15 : Nat), (13 : Nat))]) ∈ lw_all := lw_g (lw_at lw_m6 217 rfl) rfl
theorem q1482 : (Jvm.Cond.methodLink "RoundingAuditorLaw" (86 : Nat) ({ cls := "RoundingAuditor", name := "cure", desc := "(I)I" } : Jvm.MethodName)) ∈ lw_all := lw_g (lw_at lw_m6 218 rfl) rfl
theorem q1495 : (Jvm.Cond.methodLink "RoundingAuditorLaw" (215 : Nat) ({ cls := "RoundingAuditorLaw", name := "statement", desc := "(LRoundingAuditor;IJI[J)I" } : Jvm.MethodName)) ∈ lw_all := lw_g (lw_at lw_m6 231 rfl) rfl
theorem q1496 : (Jvm.Cond.static ({ cls := "RoundingAuditorLaw", name := "statement", desc := "(LRoundingAuditor;IJI[J)I" } : Jvm.MethodName)) ∈ lw_all := lw_g (lw_at lw_m6 232 rfl) rfl
theorem q1497 : (Jvm.Cond.codeWith ({ cls := "RoundingAuditorLaw", name := "statement", desc := "(LRoundingAuditor;IJI[J)I" } : Jvm.MethodName) method_23_code (7 : Nat) (Option.some Jvm.ClassFile.FieldType.int) [((0 : Nat), (13 : Nat), (16 : Nat), (21 : Nat)), ((0 : Nat), (13 : Nat), (20 : Nat), (13 : Nat))]) ∈ lw_all := lw_g (lw_at lw_m6 233 rfl) rfl
theorem q1498 : (Jvm.Cond.methodLink "RoundingAuditorLaw" (89 : Nat) ({ cls := "RoundingAuditor", name := "statement", desc := "(IJI)I" } : Jvm.MethodName)) ∈ lw_all := lw_g (lw_at lw_m6 234 rfl) rfl
theorem q1502 : (Jvm.Cond.methodLink "RoundingAuditorLaw" (219 : Nat) ({ cls := "RoundingAuditorLaw", name := "split", desc := "(LRoundingAuditor;II[J)I" } : Jvm.MethodName)) ∈ lw_all := lw_g (lw_at lw_m6 238 rfl) rfl
theorem q1503 : (Jvm.Cond.static ({ cls := "RoundingAuditorLaw", name := "split", desc := "(LRoundingAuditor;II[J)I" } : Jvm.MethodName)) ∈ lw_all := lw_g (lw_at lw_m6 239 rfl) rfl
theorem q1504 : (Jvm.Cond.codeWith ({ cls := "RoundingAuditorLaw", name := "split", desc := "(LRoundingAuditor;II[J)I" } : Jvm.MethodName) method_24_code (5 : Nat) (Option.some Jvm.ClassFile.FieldType.int) [((0 : Nat), (10 : Nat), (13 : Nat), (21 : Nat)), ((0 : Nat), (10 : Nat), (17 : Nat), (13 : Nat))]) ∈ lw_all := lw_g (lw_at lw_m7 0 rfl) rfl
theorem q1505 : (Jvm.Cond.methodLink "RoundingAuditorLaw" (93 : Nat) ({ cls := "RoundingAuditor", name := "split", desc := "(II)I" } : Jvm.MethodName)) ∈ lw_all := lw_g (lw_at lw_m7 1 rfl) rfl
theorem q1519 : (Jvm.Cond.methodLink "RoundingAuditorLaw" (226 : Nat) ({ cls := "RoundingAuditorLaw", name := "sign", desc := "(LRoundingAuditor;III[J)I" } : Jvm.MethodName)) ∈ lw_all := lw_g (lw_at lw_m7 15 rfl) rfl
theorem q1520 : (Jvm.Cond.static ({ cls := "RoundingAuditorLaw", name := "sign", desc := "(LRoundingAuditor;III[J)I" } : Jvm.MethodName)) ∈ lw_all := lw_g (lw_at lw_m7 16 rfl) rfl
theorem q1521 : (Jvm.Cond.codeWith ({ cls := "RoundingAuditorLaw", name := "sign", desc := "(LRoundingAuditor;III[J)I" } : Jvm.MethodName) method_25_code (6 : Nat) (Option.some Jvm.ClassFile.FieldType.int) [((0 : Nat), (12 : Nat), (15 : Nat), (21 : Nat)), ((0 : Nat), (12 : Nat), (19 : Nat), (13 : Nat))]) ∈ lw_all := lw_g (lw_at lw_m7 17 rfl) rfl
theorem q1522 : (Jvm.Cond.methodLink "RoundingAuditorLaw" (96 : Nat) ({ cls := "RoundingAuditor", name := "sign", desc := "(III)I" } : Jvm.MethodName)) ∈ lw_all := lw_g (lw_at lw_m7 18 rfl) rfl
theorem q1526 : (Jvm.Cond.classLink "RoundingAuditorLaw" (100 : Nat) "RoundingAuditorModel") ∈ lw_all := lw_g (lw_at lw_m7 22 rfl) rfl
theorem q1528 : (Jvm.Cond.methodLink "RoundingAuditorLaw" (102 : Nat) ({ cls := "RoundingAuditorModel", name := "<init>", desc := "()V" } : Jvm.MethodName)) ∈ lw_all := lw_g (lw_at lw_m7 24 rfl) rfl
theorem q1641 : (Jvm.Cond.methodLink "RoundingAuditorLaw" (109 : Nat) ({ cls := "RoundingAuditorModel", name := "thrown", desc := "()I" } : Jvm.MethodName)) ∈ lw_all := lw_g (lw_at lw_m7 137 rfl) rfl
theorem q1645 : (Jvm.Cond.methodLink "RoundingAuditorLaw" (108 : Nat) ({ cls := "RoundingAuditorModel", name := "ledger", desc := "(IZI)I" } : Jvm.MethodName)) ∈ lw_all := lw_g (lw_at lw_m7 141 rfl) rfl
theorem q1661 : (Jvm.Cond.methodLink "RoundingAuditorLaw" (118 : Nat) ({ cls := "RoundingAuditorModel", name := "set", desc := "(IIJ)I" } : Jvm.MethodName)) ∈ lw_all := lw_g (lw_at lw_m7 157 rfl) rfl
theorem q1678 : (Jvm.Cond.methodLink "RoundingAuditorLaw" (122 : Nat) ({ cls := "RoundingAuditorModel", name := "book", desc := "(IIII)I" } : Jvm.MethodName)) ∈ lw_all := lw_g (lw_at lw_m7 174 rfl) rfl
theorem q1684 : (Jvm.Cond.methodLink "RoundingAuditorLaw" (126 : Nat) ({ cls := "RoundingAuditorModel", name := "amount", desc := "(II)J" } : Jvm.MethodName)) ∈ lw_all := lw_g (lw_at lw_m7 180 rfl) rfl
theorem q1693 : (Jvm.Cond.methodLink "RoundingAuditorLaw" (130 : Nat) ({ cls := "RoundingAuditorModel", name := "entry", desc := "(III)I" } : Jvm.MethodName)) ∈ lw_all := lw_g (lw_at lw_m7 189 rfl) rfl
theorem q1697 : (Jvm.Cond.methodLink "RoundingAuditorLaw" (133 : Nat) ({ cls := "RoundingAuditorModel", name := "about", desc := "(II)I" } : Jvm.MethodName)) ∈ lw_all := lw_g (lw_at lw_m7 193 rfl) rfl
theorem q1719 : (Jvm.Cond.methodLink "RoundingAuditorLaw" (136 : Nat) ({ cls := "RoundingAuditorModel", name := "filter", desc := "(III)I" } : Jvm.MethodName)) ∈ lw_all := lw_g (lw_at lw_m7 215 rfl) rfl
theorem q1732 : (Jvm.Cond.methodLink "RoundingAuditorLaw" (139 : Nat) ({ cls := "RoundingAuditorModel", name := "mix", desc := "(III)I" } : Jvm.MethodName)) ∈ lw_all := lw_g (lw_at lw_m7 228 rfl) rfl
theorem q1736 : (Jvm.Cond.methodLink "RoundingAuditorLaw" (142 : Nat) ({ cls := "RoundingAuditorModel", name := "same", desc := "(II)I" } : Jvm.MethodName)) ∈ lw_all := lw_g (lw_at lw_m7 232 rfl) rfl
theorem q1740 : (Jvm.Cond.methodLink "RoundingAuditorLaw" (145 : Nat) ({ cls := "RoundingAuditorModel", name := "worked", desc := "(IIII)J" } : Jvm.MethodName)) ∈ lw_all := lw_g (lw_at lw_m7 236 rfl) rfl
theorem q1767 : (Jvm.Cond.methodLink "RoundingAuditorLaw" (148 : Nat) ({ cls := "RoundingAuditorModel", name := "whole", desc := "(III)J" } : Jvm.MethodName)) ∈ lw_all := lw_g (lw_at lw_m8 23 rfl) rfl
theorem q1772 : (Jvm.Cond.methodLink "RoundingAuditorLaw" (151 : Nat) ({ cls := "RoundingAuditorModel", name := "units", desc := "(III)J" } : Jvm.MethodName)) ∈ lw_all := lw_g (lw_at lw_m8 28 rfl) rfl
theorem q1792 : (Jvm.Cond.methodLink "RoundingAuditorLaw" (154 : Nat) ({ cls := "RoundingAuditorModel", name := "give", desc := "(II)I" } : Jvm.MethodName)) ∈ lw_all := lw_g (lw_at lw_m8 48 rfl) rfl
theorem q1796 : (Jvm.Cond.methodLink "RoundingAuditorLaw" (157 : Nat) ({ cls := "RoundingAuditorModel", name := "run", desc := "(III)I" } : Jvm.MethodName)) ∈ lw_all := lw_g (lw_at lw_m8 52 rfl) rfl
theorem q1863 : (Jvm.Cond.methodLink "RoundingAuditorLaw" (161 : Nat) ({ cls := "RoundingAuditorModel", name := "total", desc := "(I)J" } : Jvm.MethodName)) ∈ lw_all := lw_g (lw_at lw_m8 119 rfl) rfl
theorem q1872 : (Jvm.Cond.methodLink "RoundingAuditorLaw" (165 : Nat) ({ cls := "RoundingAuditorModel", name := "steps", desc := "(I)I" } : Jvm.MethodName)) ∈ lw_all := lw_g (lw_at lw_m8 128 rfl) rfl
theorem q1876 : (Jvm.Cond.methodLink "RoundingAuditorLaw" (169 : Nat) ({ cls := "RoundingAuditorModel", name := "step", desc := "(III)J" } : Jvm.MethodName)) ∈ lw_all := lw_g (lw_at lw_m8 132 rfl) rfl
theorem q1930 : (Jvm.Cond.methodLink "RoundingAuditorLaw" (173 : Nat) ({ cls := "RoundingAuditorModel", name := "story", desc := "(II)I" } : Jvm.MethodName)) ∈ lw_all := lw_g (lw_at lw_m8 186 rfl) rfl
theorem q1935 : (Jvm.Cond.methodLink "RoundingAuditorLaw" (177 : Nat) ({ cls := "RoundingAuditorModel", name := "worst", desc := "(I)I" } : Jvm.MethodName)) ∈ lw_all := lw_g (lw_at lw_m8 191 rfl) rfl
theorem q1943 : (Jvm.Cond.methodLink "RoundingAuditorLaw" (181 : Nat) ({ cls := "RoundingAuditorModel", name := "off", desc := "(II)I" } : Jvm.MethodName)) ∈ lw_all := lw_g (lw_at lw_m8 199 rfl) rfl
theorem q1956 : (Jvm.Cond.methodLink "RoundingAuditorLaw" (185 : Nat) ({ cls := "RoundingAuditorModel", name := "parts", desc := "(II)I" } : Jvm.MethodName)) ∈ lw_all := lw_g (lw_at lw_m8 212 rfl) rfl
theorem q1960 : (Jvm.Cond.methodLink "RoundingAuditorLaw" (189 : Nat) ({ cls := "RoundingAuditorModel", name := "clear", desc := "()I" } : Jvm.MethodName)) ∈ lw_all := lw_g (lw_at lw_m8 216 rfl) rfl
theorem q1964 : (Jvm.Cond.methodLink "RoundingAuditorLaw" (193 : Nat) ({ cls := "RoundingAuditorModel", name := "compare", desc := "(IJ)I" } : Jvm.MethodName)) ∈ lw_all := lw_g (lw_at lw_m8 220 rfl) rfl
theorem q1974 : (Jvm.Cond.methodLink "RoundingAuditorLaw" (197 : Nat) ({ cls := "RoundingAuditorModel", name := "rounded", desc := "(I)J" } : Jvm.MethodName)) ∈ lw_all := lw_g (lw_at lw_m8 230 rfl) rfl
theorem q1982 : (Jvm.Cond.methodLink "RoundingAuditorLaw" (200 : Nat) ({ cls := "RoundingAuditorModel", name := "word", desc := "(II)I" } : Jvm.MethodName)) ∈ lw_all := lw_g (lw_at lw_m8 238 rfl) rfl
theorem q1987 : (Jvm.Cond.methodLink "RoundingAuditorLaw" (204 : Nat) ({ cls := "RoundingAuditorModel", name := "extreme", desc := "(IZ)J" } : Jvm.MethodName)) ∈ lw_all := lw_g (lw_at lw_m9 3 rfl) rfl
theorem q2008 : (Jvm.Cond.methodLink "RoundingAuditorLaw" (207 : Nat) ({ cls := "RoundingAuditorModel", name := "reach", desc := "(I)I" } : Jvm.MethodName)) ∈ lw_all := lw_g (lw_at lw_m9 24 rfl) rfl
theorem q2012 : (Jvm.Cond.methodLink "RoundingAuditorLaw" (210 : Nat) ({ cls := "RoundingAuditorModel", name := "cure", desc := "(I)I" } : Jvm.MethodName)) ∈ lw_all := lw_g (lw_at lw_m9 28 rfl) rfl
theorem q2026 : (Jvm.Cond.methodLink "RoundingAuditorLaw" (214 : Nat) ({ cls := "RoundingAuditorModel", name := "cured", desc := "(I)I" } : Jvm.MethodName)) ∈ lw_all := lw_g (lw_at lw_m9 42 rfl) rfl
theorem q2030 : (Jvm.Cond.methodLink "RoundingAuditorLaw" (218 : Nat) ({ cls := "RoundingAuditorModel", name := "statement", desc := "(IJI)I" } : Jvm.MethodName)) ∈ lw_all := lw_g (lw_at lw_m9 46 rfl) rfl
theorem q2034 : (Jvm.Cond.methodLink "RoundingAuditorLaw" (221 : Nat) ({ cls := "RoundingAuditorModel", name := "split", desc := "(II)I" } : Jvm.MethodName)) ∈ lw_all := lw_g (lw_at lw_m9 50 rfl) rfl
theorem q2039 : (Jvm.Cond.methodLink "RoundingAuditorLaw" (225 : Nat) ({ cls := "RoundingAuditorModel", name := "share", desc := "(I)I" } : Jvm.MethodName)) ∈ lw_all := lw_g (lw_at lw_m9 55 rfl) rfl
theorem q2043 : (Jvm.Cond.methodLink "RoundingAuditorLaw" (228 : Nat) ({ cls := "RoundingAuditorModel", name := "sign", desc := "(III)I" } : Jvm.MethodName)) ∈ lw_all := lw_g (lw_at lw_m9 59 rfl) rfl
theorem q2047 : (Jvm.Cond.constantLong "RoundingAuditorLaw" (113 : Nat) (4294967295 : Int64)) ∈ lw_all := lw_g (lw_at lw_m9 63 rfl) rfl

/-! RoundingAuditor$Exact -/
set_option maxRecDepth 100000
def RX2 : String := "RoundingAuditor$Exact"
def TX2 : u_T := fun k => match k with
  | _ => ("RoundingAuditor$Exact", "words", "[I", true)
def tyX2 : Nat → FieldType := fun k => match k with
  | _ => .array .int
abbrev wsX20 : List Cond := u_ws RX2 TX2 1
theorem nmX2 : ∀ a, a < 1 → ∀ b, b < 1 → a ≠ b → (TX2 a).2.1 ≠ (TX2 b).2.1 := by decide +kernel
theorem tyX2_ok : ∀ k, k < 1 → parseFieldDescriptor (TX2 k).2.2.1 = some (tyX2 k) := by decide +kernel
abbrev cX2_init : ByteArray := prog_8_method_1_code
def yX2_init : MethodName := ⟨RX2, "<init>", "()V"⟩
def dkwX2_init_0 : List UInt8 := [42, 183, 0, 1, 42, 16, 40, 188, 10, 181, 0, 9, 177]
abbrev dktX2_init_0 : List UInt8 := dkwX2_init_0 ++ []
theorem dksX2_init_0 : cX2_init.data.toList.drop 0 = dktX2_init_0 := by decide +kernel
theorem dX2_init_0 : decode cX2_init 0 = .ok (.aload_n 0, 1) := dk_42 (dk_at dksX2_init_0 0 rfl rfl)
theorem dX2_init_1 : decode cX2_init 1 = .ok (.invokespecial 1, 3) := dk_183 0 1 (dk_at dksX2_init_0 1 rfl rfl)
theorem dX2_init_4 : decode cX2_init 4 = .ok (.aload_n 0, 1) := dk_42 (dk_at dksX2_init_0 4 rfl rfl)
theorem dX2_init_5 : decode cX2_init 5 = .ok (.bipush 40, 2) := dk_16 40 (dk_at dksX2_init_0 5 rfl rfl)
theorem dX2_init_7 : decode cX2_init 7 = .ok (.newarray .int, 2) := dk_188_10 (dk_at dksX2_init_0 7 rfl rfl)
theorem dX2_init_9 : decode cX2_init 9 = .ok (.putfield 9, 3) := dk_181 0 9 (dk_at dksX2_init_0 9 rfl rfl)
theorem dX2_init_12 : decode cX2_init 12 = .ok (.return_, 1) := dk_177 (dk_at dksX2_init_0 12 rfl rfl)
abbrev cX2_clear : ByteArray := prog_8_method_2_code
def yX2_clear : MethodName := ⟨RX2, "clear", "()V"⟩
def dkwX2_clear_0 : List UInt8 := [3, 60, 27, 16, 40, 162, 0, 16, 42, 180, 0, 9, 27, 3, 79, 132, 1, 1, 167, 255, 240, 177]
abbrev dktX2_clear_0 : List UInt8 := dkwX2_clear_0 ++ []
theorem dksX2_clear_0 : cX2_clear.data.toList.drop 0 = dktX2_clear_0 := by decide +kernel
theorem dX2_clear_0 : decode cX2_clear 0 = .ok (.iconst 0, 1) := dk_3 (dk_at dksX2_clear_0 0 rfl rfl)
theorem dX2_clear_1 : decode cX2_clear 1 = .ok (.istore_n 1, 1) := dk_60 (dk_at dksX2_clear_0 1 rfl rfl)
theorem dX2_clear_2 : decode cX2_clear 2 = .ok (.iload_n 1, 1) := dk_27 (dk_at dksX2_clear_0 2 rfl rfl)
theorem dX2_clear_3 : decode cX2_clear 3 = .ok (.bipush 40, 2) := dk_16 40 (dk_at dksX2_clear_0 3 rfl rfl)
theorem dX2_clear_5 : decode cX2_clear 5 = .ok (.if_icmp .ge 16, 3) := dk_162 0 16 (dk_at dksX2_clear_0 5 rfl rfl)
theorem dX2_clear_8 : decode cX2_clear 8 = .ok (.aload_n 0, 1) := dk_42 (dk_at dksX2_clear_0 8 rfl rfl)
theorem dX2_clear_9 : decode cX2_clear 9 = .ok (.getfield 9, 3) := dk_180 0 9 (dk_at dksX2_clear_0 9 rfl rfl)
theorem dX2_clear_12 : decode cX2_clear 12 = .ok (.iload_n 1, 1) := dk_27 (dk_at dksX2_clear_0 12 rfl rfl)
theorem dX2_clear_13 : decode cX2_clear 13 = .ok (.iconst 0, 1) := dk_3 (dk_at dksX2_clear_0 13 rfl rfl)
theorem dX2_clear_14 : decode cX2_clear 14 = .ok (.iastore, 1) := dk_79 (dk_at dksX2_clear_0 14 rfl rfl)
theorem dX2_clear_15 : decode cX2_clear 15 = .ok (.iinc 1 1, 3) := dk_132 1 1 (dk_at dksX2_clear_0 15 rfl rfl)
theorem dX2_clear_18 : decode cX2_clear 18 = .ok (.goto (-16), 3) := dk_167 255 240 (dk_at dksX2_clear_0 18 rfl rfl)
theorem dX2_clear_21 : decode cX2_clear 21 = .ok (.return_, 1) := dk_177 (dk_at dksX2_clear_0 21 rfl rfl)
abbrev cX2_add : ByteArray := prog_8_method_8_code
def yX2_add : MethodName := ⟨RX2, "add", "(DZ)V"⟩
def dkwX2_add_3 : List UInt8 := [159, 0, 7, 4, 167, 0, 4, 3, 182, 0, 31, 177]
abbrev dktX2_add_3 : List UInt8 := dkwX2_add_3 ++ []
def dkwX2_add_2 : List UInt8 := [167, 0, 4, 3, 54, 9, 42, 22, 7, 21, 9, 22, 4, 9, 148, 156, 0, 7, 4, 167, 0, 4, 3, 29]
abbrev dktX2_add_2 : List UInt8 := dkwX2_add_2 ++ dktX2_add_3
def dkwX2_add_1 : List UInt8 := [21, 6, 158, 0, 9, 20, 0, 29, 167, 0, 4, 9, 129, 55, 7, 21, 6, 158, 0, 10, 21, 6, 4, 100]
abbrev dktX2_add_1 : List UInt8 := dkwX2_add_1 ++ dktX2_add_2
def dkwX2_add_0 : List UInt8 := [39, 184, 0, 21, 55, 4, 22, 4, 16, 52, 125, 136, 17, 7, 255, 126, 54, 6, 22, 4, 20, 0, 27, 127]
abbrev dktX2_add_0 : List UInt8 := dkwX2_add_0 ++ dktX2_add_1
theorem dksX2_add_0 : cX2_add.data.toList.drop 0 = dktX2_add_0 := by decide +kernel
theorem dksX2_add_1 : cX2_add.data.toList.drop 24 = dktX2_add_1 := dk_seg dksX2_add_0 24 rfl rfl
theorem dksX2_add_2 : cX2_add.data.toList.drop 48 = dktX2_add_2 := dk_seg dksX2_add_1 24 rfl rfl
theorem dksX2_add_3 : cX2_add.data.toList.drop 72 = dktX2_add_3 := dk_seg dksX2_add_2 24 rfl rfl
theorem dX2_add_0 : decode cX2_add 0 = .ok (.dload_n 1, 1) := dk_39 (dk_at dksX2_add_0 0 rfl rfl)
theorem dX2_add_1 : decode cX2_add 1 = .ok (.invokestatic 21, 3) := dk_184 0 21 (dk_at dksX2_add_0 1 rfl rfl)
theorem dX2_add_4 : decode cX2_add 4 = .ok (.lstore 4, 2) := dk_55 4 (dk_at dksX2_add_0 4 rfl rfl)
theorem dX2_add_6 : decode cX2_add 6 = .ok (.lload 4, 2) := dk_22 4 (dk_at dksX2_add_0 6 rfl rfl)
theorem dX2_add_8 : decode cX2_add 8 = .ok (.bipush 52, 2) := dk_16 52 (dk_at dksX2_add_0 8 rfl rfl)
theorem dX2_add_10 : decode cX2_add 10 = .ok (.lushr, 1) := dk_125 (dk_at dksX2_add_0 10 rfl rfl)
theorem dX2_add_11 : decode cX2_add 11 = .ok (.l2i, 1) := dk_136 (dk_at dksX2_add_0 11 rfl rfl)
theorem dX2_add_12 : decode cX2_add 12 = .ok (.sipush 2047, 3) := dk_17 7 255 (dk_at dksX2_add_0 12 rfl rfl)
theorem dX2_add_15 : decode cX2_add 15 = .ok (.iand, 1) := dk_126 (dk_at dksX2_add_0 15 rfl rfl)
theorem dX2_add_16 : decode cX2_add 16 = .ok (.istore 6, 2) := dk_54 6 (dk_at dksX2_add_0 16 rfl rfl)
theorem dX2_add_18 : decode cX2_add 18 = .ok (.lload 4, 2) := dk_22 4 (dk_at dksX2_add_0 18 rfl rfl)
theorem dX2_add_20 : decode cX2_add 20 = .ok (.ldc2_w 27, 3) := dk_20 0 27 (dk_at dksX2_add_0 20 rfl rfl)
theorem dX2_add_23 : decode cX2_add 23 = .ok (.land, 1) := dk_127 (dk_at dksX2_add_0 23 rfl rfl)
theorem dX2_add_24 : decode cX2_add 24 = .ok (.iload 6, 2) := dk_21 6 (dk_at dksX2_add_1 0 rfl rfl)
theorem dX2_add_26 : decode cX2_add 26 = .ok (.ifCond .le 9, 3) := dk_158 0 9 (dk_at dksX2_add_1 2 rfl rfl)
theorem dX2_add_29 : decode cX2_add 29 = .ok (.ldc2_w 29, 3) := dk_20 0 29 (dk_at dksX2_add_1 5 rfl rfl)
theorem dX2_add_32 : decode cX2_add 32 = .ok (.goto 4, 3) := dk_167 0 4 (dk_at dksX2_add_1 8 rfl rfl)
theorem dX2_add_35 : decode cX2_add 35 = .ok (.lconst 0, 1) := dk_9 (dk_at dksX2_add_1 11 rfl rfl)
theorem dX2_add_36 : decode cX2_add 36 = .ok (.lor, 1) := dk_129 (dk_at dksX2_add_1 12 rfl rfl)
theorem dX2_add_37 : decode cX2_add 37 = .ok (.lstore 7, 2) := dk_55 7 (dk_at dksX2_add_1 13 rfl rfl)
theorem dX2_add_39 : decode cX2_add 39 = .ok (.iload 6, 2) := dk_21 6 (dk_at dksX2_add_1 15 rfl rfl)
theorem dX2_add_41 : decode cX2_add 41 = .ok (.ifCond .le 10, 3) := dk_158 0 10 (dk_at dksX2_add_1 17 rfl rfl)
theorem dX2_add_44 : decode cX2_add 44 = .ok (.iload 6, 2) := dk_21 6 (dk_at dksX2_add_1 20 rfl rfl)
theorem dX2_add_46 : decode cX2_add 46 = .ok (.iconst 1, 1) := dk_4 (dk_at dksX2_add_1 22 rfl rfl)
theorem dX2_add_47 : decode cX2_add 47 = .ok (.isub, 1) := dk_100 (dk_at dksX2_add_1 23 rfl rfl)
theorem dX2_add_48 : decode cX2_add 48 = .ok (.goto 4, 3) := dk_167 0 4 (dk_at dksX2_add_2 0 rfl rfl)
theorem dX2_add_51 : decode cX2_add 51 = .ok (.iconst 0, 1) := dk_3 (dk_at dksX2_add_2 3 rfl rfl)
theorem dX2_add_52 : decode cX2_add 52 = .ok (.istore 9, 2) := dk_54 9 (dk_at dksX2_add_2 4 rfl rfl)
theorem dX2_add_54 : decode cX2_add 54 = .ok (.aload_n 0, 1) := dk_42 (dk_at dksX2_add_2 6 rfl rfl)
theorem dX2_add_55 : decode cX2_add 55 = .ok (.lload 7, 2) := dk_22 7 (dk_at dksX2_add_2 7 rfl rfl)
theorem dX2_add_57 : decode cX2_add 57 = .ok (.iload 9, 2) := dk_21 9 (dk_at dksX2_add_2 9 rfl rfl)
theorem dX2_add_59 : decode cX2_add 59 = .ok (.lload 4, 2) := dk_22 4 (dk_at dksX2_add_2 11 rfl rfl)
theorem dX2_add_61 : decode cX2_add 61 = .ok (.lconst 0, 1) := dk_9 (dk_at dksX2_add_2 13 rfl rfl)
theorem dX2_add_62 : decode cX2_add 62 = .ok (.lcmp, 1) := dk_148 (dk_at dksX2_add_2 14 rfl rfl)
theorem dX2_add_63 : decode cX2_add 63 = .ok (.ifCond .ge 7, 3) := dk_156 0 7 (dk_at dksX2_add_2 15 rfl rfl)
theorem dX2_add_66 : decode cX2_add 66 = .ok (.iconst 1, 1) := dk_4 (dk_at dksX2_add_2 18 rfl rfl)
theorem dX2_add_67 : decode cX2_add 67 = .ok (.goto 4, 3) := dk_167 0 4 (dk_at dksX2_add_2 19 rfl rfl)
theorem dX2_add_70 : decode cX2_add 70 = .ok (.iconst 0, 1) := dk_3 (dk_at dksX2_add_2 22 rfl rfl)
theorem dX2_add_71 : decode cX2_add 71 = .ok (.iload_n 3, 1) := dk_29 (dk_at dksX2_add_2 23 rfl rfl)
theorem dX2_add_72 : decode cX2_add 72 = .ok (.if_icmp .eq 7, 3) := dk_159 0 7 (dk_at dksX2_add_3 0 rfl rfl)
theorem dX2_add_75 : decode cX2_add 75 = .ok (.iconst 1, 1) := dk_4 (dk_at dksX2_add_3 3 rfl rfl)
theorem dX2_add_76 : decode cX2_add 76 = .ok (.goto 4, 3) := dk_167 0 4 (dk_at dksX2_add_3 4 rfl rfl)
theorem dX2_add_79 : decode cX2_add 79 = .ok (.iconst 0, 1) := dk_3 (dk_at dksX2_add_3 7 rfl rfl)
theorem dX2_add_80 : decode cX2_add 80 = .ok (.invokevirtual 31, 3) := dk_182 0 31 (dk_at dksX2_add_3 8 rfl rfl)
theorem dX2_add_83 : decode cX2_add 83 = .ok (.return_, 1) := dk_177 (dk_at dksX2_add_3 11 rfl rfl)
abbrev cX2_addShifted : ByteArray := prog_8_method_9_code
def yX2_addShifted : MethodName := ⟨RX2, "addShifted", "(JIZ)V"⟩
def dkwX2_addShifted_7 : List UInt8 := [79, 22, 11, 16, 32, 123, 55, 11, 132, 19, 1, 167, 255, 151, 177]
abbrev dktX2_addShifted_7 : List UInt8 := dkwX2_addShifted_7 ++ []
def dkwX2_addShifted_6 : List UInt8 := [153, 0, 9, 22, 20, 117, 167, 0, 5, 22, 20, 97, 97, 55, 11, 42, 180, 0, 9, 21, 19, 22, 11, 136]
abbrev dktX2_addShifted_6 : List UInt8 := dkwX2_addShifted_6 ++ dktX2_addShifted_7
def dkwX2_addShifted_5 : List UInt8 := [167, 0, 4, 9, 55, 20, 22, 11, 42, 180, 0, 9, 21, 19, 46, 133, 20, 0, 19, 127, 21, 4]
abbrev dktX2_addShifted_5 : List UInt8 := dkwX2_addShifted_5 ++ dktX2_addShifted_6
def dkwX2_addShifted_4 : List UInt8 := [96, 160, 0, 12, 22, 15, 20, 0, 19, 127, 167, 0, 18, 21, 19, 21, 5, 5, 96, 160, 0, 8, 22, 17]
abbrev dktX2_addShifted_4 : List UInt8 := dkwX2_addShifted_4 ++ dktX2_addShifted_5
def dkwX2_addShifted_3 : List UInt8 := [21, 19, 16, 40, 162, 0, 104, 21, 19, 21, 5, 160, 0, 8, 22, 13, 167, 0, 36, 21, 19, 21, 5, 4]
abbrev dktX2_addShifted_3 : List UInt8 := dkwX2_addShifted_3 ++ dktX2_addShifted_4
def dkwX2_addShifted_2 : List UInt8 := [20, 0, 19, 127, 97, 55, 15, 22, 9, 16, 32, 125, 22, 15, 16, 32, 125, 97, 55, 17, 21, 5, 54, 19]
abbrev dktX2_addShifted_2 : List UInt8 := dkwX2_addShifted_2 ++ dktX2_addShifted_3
def dkwX2_addShifted_1 : List UInt8 := [125, 21, 6, 121, 55, 9, 9, 55, 11, 22, 7, 20, 0, 19, 127, 55, 13, 22, 7, 16, 32, 125, 22, 9]
abbrev dktX2_addShifted_1 : List UInt8 := dkwX2_addShifted_1 ++ dktX2_addShifted_2
def dkwX2_addShifted_0 : List UInt8 := [29, 8, 122, 54, 5, 29, 16, 31, 126, 54, 6, 31, 20, 0, 19, 127, 21, 6, 121, 55, 7, 31, 16, 32]
abbrev dktX2_addShifted_0 : List UInt8 := dkwX2_addShifted_0 ++ dktX2_addShifted_1
theorem dksX2_addShifted_0 : cX2_addShifted.data.toList.drop 0 = dktX2_addShifted_0 := by decide +kernel
theorem dksX2_addShifted_1 : cX2_addShifted.data.toList.drop 24 = dktX2_addShifted_1 := dk_seg dksX2_addShifted_0 24 rfl rfl
theorem dksX2_addShifted_2 : cX2_addShifted.data.toList.drop 48 = dktX2_addShifted_2 := dk_seg dksX2_addShifted_1 24 rfl rfl
theorem dksX2_addShifted_3 : cX2_addShifted.data.toList.drop 72 = dktX2_addShifted_3 := dk_seg dksX2_addShifted_2 24 rfl rfl
theorem dksX2_addShifted_4 : cX2_addShifted.data.toList.drop 96 = dktX2_addShifted_4 := dk_seg dksX2_addShifted_3 24 rfl rfl
theorem dksX2_addShifted_5 : cX2_addShifted.data.toList.drop 120 = dktX2_addShifted_5 := dk_seg dksX2_addShifted_4 24 rfl rfl
theorem dksX2_addShifted_6 : cX2_addShifted.data.toList.drop 142 = dktX2_addShifted_6 := dk_seg dksX2_addShifted_5 22 rfl rfl
theorem dksX2_addShifted_7 : cX2_addShifted.data.toList.drop 166 = dktX2_addShifted_7 := dk_seg dksX2_addShifted_6 24 rfl rfl
theorem dX2_addShifted_0 : decode cX2_addShifted 0 = .ok (.iload_n 3, 1) := dk_29 (dk_at dksX2_addShifted_0 0 rfl rfl)
theorem dX2_addShifted_1 : decode cX2_addShifted 1 = .ok (.iconst 5, 1) := dk_8 (dk_at dksX2_addShifted_0 1 rfl rfl)
theorem dX2_addShifted_2 : decode cX2_addShifted 2 = .ok (.ishr, 1) := dk_122 (dk_at dksX2_addShifted_0 2 rfl rfl)
theorem dX2_addShifted_3 : decode cX2_addShifted 3 = .ok (.istore 5, 2) := dk_54 5 (dk_at dksX2_addShifted_0 3 rfl rfl)
theorem dX2_addShifted_5 : decode cX2_addShifted 5 = .ok (.iload_n 3, 1) := dk_29 (dk_at dksX2_addShifted_0 5 rfl rfl)
theorem dX2_addShifted_6 : decode cX2_addShifted 6 = .ok (.bipush 31, 2) := dk_16 31 (dk_at dksX2_addShifted_0 6 rfl rfl)
theorem dX2_addShifted_8 : decode cX2_addShifted 8 = .ok (.iand, 1) := dk_126 (dk_at dksX2_addShifted_0 8 rfl rfl)
theorem dX2_addShifted_9 : decode cX2_addShifted 9 = .ok (.istore 6, 2) := dk_54 6 (dk_at dksX2_addShifted_0 9 rfl rfl)
theorem dX2_addShifted_11 : decode cX2_addShifted 11 = .ok (.lload_n 1, 1) := dk_31 (dk_at dksX2_addShifted_0 11 rfl rfl)
theorem dX2_addShifted_12 : decode cX2_addShifted 12 = .ok (.ldc2_w 19, 3) := dk_20 0 19 (dk_at dksX2_addShifted_0 12 rfl rfl)
theorem dX2_addShifted_15 : decode cX2_addShifted 15 = .ok (.land, 1) := dk_127 (dk_at dksX2_addShifted_0 15 rfl rfl)
theorem dX2_addShifted_16 : decode cX2_addShifted 16 = .ok (.iload 6, 2) := dk_21 6 (dk_at dksX2_addShifted_0 16 rfl rfl)
theorem dX2_addShifted_18 : decode cX2_addShifted 18 = .ok (.lshl, 1) := dk_121 (dk_at dksX2_addShifted_0 18 rfl rfl)
theorem dX2_addShifted_19 : decode cX2_addShifted 19 = .ok (.lstore 7, 2) := dk_55 7 (dk_at dksX2_addShifted_0 19 rfl rfl)
theorem dX2_addShifted_21 : decode cX2_addShifted 21 = .ok (.lload_n 1, 1) := dk_31 (dk_at dksX2_addShifted_0 21 rfl rfl)
theorem dX2_addShifted_22 : decode cX2_addShifted 22 = .ok (.bipush 32, 2) := dk_16 32 (dk_at dksX2_addShifted_0 22 rfl rfl)
theorem dX2_addShifted_24 : decode cX2_addShifted 24 = .ok (.lushr, 1) := dk_125 (dk_at dksX2_addShifted_1 0 rfl rfl)
theorem dX2_addShifted_25 : decode cX2_addShifted 25 = .ok (.iload 6, 2) := dk_21 6 (dk_at dksX2_addShifted_1 1 rfl rfl)
theorem dX2_addShifted_27 : decode cX2_addShifted 27 = .ok (.lshl, 1) := dk_121 (dk_at dksX2_addShifted_1 3 rfl rfl)
theorem dX2_addShifted_28 : decode cX2_addShifted 28 = .ok (.lstore 9, 2) := dk_55 9 (dk_at dksX2_addShifted_1 4 rfl rfl)
theorem dX2_addShifted_30 : decode cX2_addShifted 30 = .ok (.lconst 0, 1) := dk_9 (dk_at dksX2_addShifted_1 6 rfl rfl)
theorem dX2_addShifted_31 : decode cX2_addShifted 31 = .ok (.lstore 11, 2) := dk_55 11 (dk_at dksX2_addShifted_1 7 rfl rfl)
theorem dX2_addShifted_33 : decode cX2_addShifted 33 = .ok (.lload 7, 2) := dk_22 7 (dk_at dksX2_addShifted_1 9 rfl rfl)
theorem dX2_addShifted_35 : decode cX2_addShifted 35 = .ok (.ldc2_w 19, 3) := dk_20 0 19 (dk_at dksX2_addShifted_1 11 rfl rfl)
theorem dX2_addShifted_38 : decode cX2_addShifted 38 = .ok (.land, 1) := dk_127 (dk_at dksX2_addShifted_1 14 rfl rfl)
theorem dX2_addShifted_39 : decode cX2_addShifted 39 = .ok (.lstore 13, 2) := dk_55 13 (dk_at dksX2_addShifted_1 15 rfl rfl)
theorem dX2_addShifted_41 : decode cX2_addShifted 41 = .ok (.lload 7, 2) := dk_22 7 (dk_at dksX2_addShifted_1 17 rfl rfl)
theorem dX2_addShifted_43 : decode cX2_addShifted 43 = .ok (.bipush 32, 2) := dk_16 32 (dk_at dksX2_addShifted_1 19 rfl rfl)
theorem dX2_addShifted_45 : decode cX2_addShifted 45 = .ok (.lushr, 1) := dk_125 (dk_at dksX2_addShifted_1 21 rfl rfl)
theorem dX2_addShifted_46 : decode cX2_addShifted 46 = .ok (.lload 9, 2) := dk_22 9 (dk_at dksX2_addShifted_1 22 rfl rfl)
theorem dX2_addShifted_48 : decode cX2_addShifted 48 = .ok (.ldc2_w 19, 3) := dk_20 0 19 (dk_at dksX2_addShifted_2 0 rfl rfl)
theorem dX2_addShifted_51 : decode cX2_addShifted 51 = .ok (.land, 1) := dk_127 (dk_at dksX2_addShifted_2 3 rfl rfl)
theorem dX2_addShifted_52 : decode cX2_addShifted 52 = .ok (.ladd, 1) := dk_97 (dk_at dksX2_addShifted_2 4 rfl rfl)
theorem dX2_addShifted_53 : decode cX2_addShifted 53 = .ok (.lstore 15, 2) := dk_55 15 (dk_at dksX2_addShifted_2 5 rfl rfl)
theorem dX2_addShifted_55 : decode cX2_addShifted 55 = .ok (.lload 9, 2) := dk_22 9 (dk_at dksX2_addShifted_2 7 rfl rfl)
theorem dX2_addShifted_57 : decode cX2_addShifted 57 = .ok (.bipush 32, 2) := dk_16 32 (dk_at dksX2_addShifted_2 9 rfl rfl)
theorem dX2_addShifted_59 : decode cX2_addShifted 59 = .ok (.lushr, 1) := dk_125 (dk_at dksX2_addShifted_2 11 rfl rfl)
theorem dX2_addShifted_60 : decode cX2_addShifted 60 = .ok (.lload 15, 2) := dk_22 15 (dk_at dksX2_addShifted_2 12 rfl rfl)
theorem dX2_addShifted_62 : decode cX2_addShifted 62 = .ok (.bipush 32, 2) := dk_16 32 (dk_at dksX2_addShifted_2 14 rfl rfl)
theorem dX2_addShifted_64 : decode cX2_addShifted 64 = .ok (.lushr, 1) := dk_125 (dk_at dksX2_addShifted_2 16 rfl rfl)
theorem dX2_addShifted_65 : decode cX2_addShifted 65 = .ok (.ladd, 1) := dk_97 (dk_at dksX2_addShifted_2 17 rfl rfl)
theorem dX2_addShifted_66 : decode cX2_addShifted 66 = .ok (.lstore 17, 2) := dk_55 17 (dk_at dksX2_addShifted_2 18 rfl rfl)
theorem dX2_addShifted_68 : decode cX2_addShifted 68 = .ok (.iload 5, 2) := dk_21 5 (dk_at dksX2_addShifted_2 20 rfl rfl)
theorem dX2_addShifted_70 : decode cX2_addShifted 70 = .ok (.istore 19, 2) := dk_54 19 (dk_at dksX2_addShifted_2 22 rfl rfl)
theorem dX2_addShifted_72 : decode cX2_addShifted 72 = .ok (.iload 19, 2) := dk_21 19 (dk_at dksX2_addShifted_3 0 rfl rfl)
theorem dX2_addShifted_74 : decode cX2_addShifted 74 = .ok (.bipush 40, 2) := dk_16 40 (dk_at dksX2_addShifted_3 2 rfl rfl)
theorem dX2_addShifted_76 : decode cX2_addShifted 76 = .ok (.if_icmp .ge 104, 3) := dk_162 0 104 (dk_at dksX2_addShifted_3 4 rfl rfl)
theorem dX2_addShifted_79 : decode cX2_addShifted 79 = .ok (.iload 19, 2) := dk_21 19 (dk_at dksX2_addShifted_3 7 rfl rfl)
theorem dX2_addShifted_81 : decode cX2_addShifted 81 = .ok (.iload 5, 2) := dk_21 5 (dk_at dksX2_addShifted_3 9 rfl rfl)
theorem dX2_addShifted_83 : decode cX2_addShifted 83 = .ok (.if_icmp .ne 8, 3) := dk_160 0 8 (dk_at dksX2_addShifted_3 11 rfl rfl)
theorem dX2_addShifted_86 : decode cX2_addShifted 86 = .ok (.lload 13, 2) := dk_22 13 (dk_at dksX2_addShifted_3 14 rfl rfl)
theorem dX2_addShifted_88 : decode cX2_addShifted 88 = .ok (.goto 36, 3) := dk_167 0 36 (dk_at dksX2_addShifted_3 16 rfl rfl)
theorem dX2_addShifted_91 : decode cX2_addShifted 91 = .ok (.iload 19, 2) := dk_21 19 (dk_at dksX2_addShifted_3 19 rfl rfl)
theorem dX2_addShifted_93 : decode cX2_addShifted 93 = .ok (.iload 5, 2) := dk_21 5 (dk_at dksX2_addShifted_3 21 rfl rfl)
theorem dX2_addShifted_95 : decode cX2_addShifted 95 = .ok (.iconst 1, 1) := dk_4 (dk_at dksX2_addShifted_3 23 rfl rfl)
theorem dX2_addShifted_96 : decode cX2_addShifted 96 = .ok (.iadd, 1) := dk_96 (dk_at dksX2_addShifted_4 0 rfl rfl)
theorem dX2_addShifted_97 : decode cX2_addShifted 97 = .ok (.if_icmp .ne 12, 3) := dk_160 0 12 (dk_at dksX2_addShifted_4 1 rfl rfl)
theorem dX2_addShifted_100 : decode cX2_addShifted 100 = .ok (.lload 15, 2) := dk_22 15 (dk_at dksX2_addShifted_4 4 rfl rfl)
theorem dX2_addShifted_102 : decode cX2_addShifted 102 = .ok (.ldc2_w 19, 3) := dk_20 0 19 (dk_at dksX2_addShifted_4 6 rfl rfl)
theorem dX2_addShifted_105 : decode cX2_addShifted 105 = .ok (.land, 1) := dk_127 (dk_at dksX2_addShifted_4 9 rfl rfl)
theorem dX2_addShifted_106 : decode cX2_addShifted 106 = .ok (.goto 18, 3) := dk_167 0 18 (dk_at dksX2_addShifted_4 10 rfl rfl)
theorem dX2_addShifted_109 : decode cX2_addShifted 109 = .ok (.iload 19, 2) := dk_21 19 (dk_at dksX2_addShifted_4 13 rfl rfl)
theorem dX2_addShifted_111 : decode cX2_addShifted 111 = .ok (.iload 5, 2) := dk_21 5 (dk_at dksX2_addShifted_4 15 rfl rfl)
theorem dX2_addShifted_113 : decode cX2_addShifted 113 = .ok (.iconst 2, 1) := dk_5 (dk_at dksX2_addShifted_4 17 rfl rfl)
theorem dX2_addShifted_114 : decode cX2_addShifted 114 = .ok (.iadd, 1) := dk_96 (dk_at dksX2_addShifted_4 18 rfl rfl)
theorem dX2_addShifted_115 : decode cX2_addShifted 115 = .ok (.if_icmp .ne 8, 3) := dk_160 0 8 (dk_at dksX2_addShifted_4 19 rfl rfl)
theorem dX2_addShifted_118 : decode cX2_addShifted 118 = .ok (.lload 17, 2) := dk_22 17 (dk_at dksX2_addShifted_4 22 rfl rfl)
theorem dX2_addShifted_120 : decode cX2_addShifted 120 = .ok (.goto 4, 3) := dk_167 0 4 (dk_at dksX2_addShifted_5 0 rfl rfl)
theorem dX2_addShifted_123 : decode cX2_addShifted 123 = .ok (.lconst 0, 1) := dk_9 (dk_at dksX2_addShifted_5 3 rfl rfl)
theorem dX2_addShifted_124 : decode cX2_addShifted 124 = .ok (.lstore 20, 2) := dk_55 20 (dk_at dksX2_addShifted_5 4 rfl rfl)
theorem dX2_addShifted_126 : decode cX2_addShifted 126 = .ok (.lload 11, 2) := dk_22 11 (dk_at dksX2_addShifted_5 6 rfl rfl)
theorem dX2_addShifted_128 : decode cX2_addShifted 128 = .ok (.aload_n 0, 1) := dk_42 (dk_at dksX2_addShifted_5 8 rfl rfl)
theorem dX2_addShifted_129 : decode cX2_addShifted 129 = .ok (.getfield 9, 3) := dk_180 0 9 (dk_at dksX2_addShifted_5 9 rfl rfl)
theorem dX2_addShifted_132 : decode cX2_addShifted 132 = .ok (.iload 19, 2) := dk_21 19 (dk_at dksX2_addShifted_5 12 rfl rfl)
theorem dX2_addShifted_134 : decode cX2_addShifted 134 = .ok (.iaload, 1) := dk_46 (dk_at dksX2_addShifted_5 14 rfl rfl)
theorem dX2_addShifted_135 : decode cX2_addShifted 135 = .ok (.i2l, 1) := dk_133 (dk_at dksX2_addShifted_5 15 rfl rfl)
theorem dX2_addShifted_136 : decode cX2_addShifted 136 = .ok (.ldc2_w 19, 3) := dk_20 0 19 (dk_at dksX2_addShifted_5 16 rfl rfl)
theorem dX2_addShifted_139 : decode cX2_addShifted 139 = .ok (.land, 1) := dk_127 (dk_at dksX2_addShifted_5 19 rfl rfl)
theorem dX2_addShifted_140 : decode cX2_addShifted 140 = .ok (.iload 4, 2) := dk_21 4 (dk_at dksX2_addShifted_5 20 rfl rfl)
theorem dX2_addShifted_142 : decode cX2_addShifted 142 = .ok (.ifCond .eq 9, 3) := dk_153 0 9 (dk_at dksX2_addShifted_6 0 rfl rfl)
theorem dX2_addShifted_145 : decode cX2_addShifted 145 = .ok (.lload 20, 2) := dk_22 20 (dk_at dksX2_addShifted_6 3 rfl rfl)
theorem dX2_addShifted_147 : decode cX2_addShifted 147 = .ok (.lneg, 1) := dk_117 (dk_at dksX2_addShifted_6 5 rfl rfl)
theorem dX2_addShifted_148 : decode cX2_addShifted 148 = .ok (.goto 5, 3) := dk_167 0 5 (dk_at dksX2_addShifted_6 6 rfl rfl)
theorem dX2_addShifted_151 : decode cX2_addShifted 151 = .ok (.lload 20, 2) := dk_22 20 (dk_at dksX2_addShifted_6 9 rfl rfl)
theorem dX2_addShifted_153 : decode cX2_addShifted 153 = .ok (.ladd, 1) := dk_97 (dk_at dksX2_addShifted_6 11 rfl rfl)
theorem dX2_addShifted_154 : decode cX2_addShifted 154 = .ok (.ladd, 1) := dk_97 (dk_at dksX2_addShifted_6 12 rfl rfl)
theorem dX2_addShifted_155 : decode cX2_addShifted 155 = .ok (.lstore 11, 2) := dk_55 11 (dk_at dksX2_addShifted_6 13 rfl rfl)
theorem dX2_addShifted_157 : decode cX2_addShifted 157 = .ok (.aload_n 0, 1) := dk_42 (dk_at dksX2_addShifted_6 15 rfl rfl)
theorem dX2_addShifted_158 : decode cX2_addShifted 158 = .ok (.getfield 9, 3) := dk_180 0 9 (dk_at dksX2_addShifted_6 16 rfl rfl)
theorem dX2_addShifted_161 : decode cX2_addShifted 161 = .ok (.iload 19, 2) := dk_21 19 (dk_at dksX2_addShifted_6 19 rfl rfl)
theorem dX2_addShifted_163 : decode cX2_addShifted 163 = .ok (.lload 11, 2) := dk_22 11 (dk_at dksX2_addShifted_6 21 rfl rfl)
theorem dX2_addShifted_165 : decode cX2_addShifted 165 = .ok (.l2i, 1) := dk_136 (dk_at dksX2_addShifted_6 23 rfl rfl)
theorem dX2_addShifted_166 : decode cX2_addShifted 166 = .ok (.iastore, 1) := dk_79 (dk_at dksX2_addShifted_7 0 rfl rfl)
theorem dX2_addShifted_167 : decode cX2_addShifted 167 = .ok (.lload 11, 2) := dk_22 11 (dk_at dksX2_addShifted_7 1 rfl rfl)
theorem dX2_addShifted_169 : decode cX2_addShifted 169 = .ok (.bipush 32, 2) := dk_16 32 (dk_at dksX2_addShifted_7 3 rfl rfl)
theorem dX2_addShifted_171 : decode cX2_addShifted 171 = .ok (.lshr, 1) := dk_123 (dk_at dksX2_addShifted_7 5 rfl rfl)
theorem dX2_addShifted_172 : decode cX2_addShifted 172 = .ok (.lstore 11, 2) := dk_55 11 (dk_at dksX2_addShifted_7 6 rfl rfl)
theorem dX2_addShifted_174 : decode cX2_addShifted 174 = .ok (.iinc 19 1, 3) := dk_132 19 1 (dk_at dksX2_addShifted_7 8 rfl rfl)
theorem dX2_addShifted_177 : decode cX2_addShifted 177 = .ok (.goto (-105), 3) := dk_167 255 151 (dk_at dksX2_addShifted_7 11 rfl rfl)
theorem dX2_addShifted_180 : decode cX2_addShifted 180 = .ok (.return_, 1) := dk_177 (dk_at dksX2_addShifted_7 14 rfl rfl)
abbrev cX2_toDouble : ByteArray := prog_8_method_17_code
def yX2_toDouble : MethodName := ⟨RX2, "toDouble", "()D"⟩
def dkwX2_toDouble_1 : List UInt8 := [182, 0, 72, 73, 27, 153, 0, 7, 42, 182, 0, 69, 27, 153, 0, 8, 40, 119, 167, 0, 4, 40, 175]
abbrev dktX2_toDouble_1 : List UInt8 := dkwX2_toDouble_1 ++ []
def dkwX2_toDouble_0 : List UInt8 := [42, 182, 0, 66, 156, 0, 7, 4, 167, 0, 4, 3, 60, 27, 153, 0, 7, 42, 182, 0, 69, 42]
abbrev dktX2_toDouble_0 : List UInt8 := dkwX2_toDouble_0 ++ dktX2_toDouble_1
theorem dksX2_toDouble_0 : cX2_toDouble.data.toList.drop 0 = dktX2_toDouble_0 := by decide +kernel
theorem dksX2_toDouble_1 : cX2_toDouble.data.toList.drop 22 = dktX2_toDouble_1 := dk_seg dksX2_toDouble_0 22 rfl rfl
theorem dX2_toDouble_0 : decode cX2_toDouble 0 = .ok (.aload_n 0, 1) := dk_42 (dk_at dksX2_toDouble_0 0 rfl rfl)
theorem dX2_toDouble_1 : decode cX2_toDouble 1 = .ok (.invokevirtual 66, 3) := dk_182 0 66 (dk_at dksX2_toDouble_0 1 rfl rfl)
theorem dX2_toDouble_4 : decode cX2_toDouble 4 = .ok (.ifCond .ge 7, 3) := dk_156 0 7 (dk_at dksX2_toDouble_0 4 rfl rfl)
theorem dX2_toDouble_7 : decode cX2_toDouble 7 = .ok (.iconst 1, 1) := dk_4 (dk_at dksX2_toDouble_0 7 rfl rfl)
theorem dX2_toDouble_8 : decode cX2_toDouble 8 = .ok (.goto 4, 3) := dk_167 0 4 (dk_at dksX2_toDouble_0 8 rfl rfl)
theorem dX2_toDouble_11 : decode cX2_toDouble 11 = .ok (.iconst 0, 1) := dk_3 (dk_at dksX2_toDouble_0 11 rfl rfl)
theorem dX2_toDouble_12 : decode cX2_toDouble 12 = .ok (.istore_n 1, 1) := dk_60 (dk_at dksX2_toDouble_0 12 rfl rfl)
theorem dX2_toDouble_13 : decode cX2_toDouble 13 = .ok (.iload_n 1, 1) := dk_27 (dk_at dksX2_toDouble_0 13 rfl rfl)
theorem dX2_toDouble_14 : decode cX2_toDouble 14 = .ok (.ifCond .eq 7, 3) := dk_153 0 7 (dk_at dksX2_toDouble_0 14 rfl rfl)
theorem dX2_toDouble_17 : decode cX2_toDouble 17 = .ok (.aload_n 0, 1) := dk_42 (dk_at dksX2_toDouble_0 17 rfl rfl)
theorem dX2_toDouble_18 : decode cX2_toDouble 18 = .ok (.invokevirtual 69, 3) := dk_182 0 69 (dk_at dksX2_toDouble_0 18 rfl rfl)
theorem dX2_toDouble_21 : decode cX2_toDouble 21 = .ok (.aload_n 0, 1) := dk_42 (dk_at dksX2_toDouble_0 21 rfl rfl)
theorem dX2_toDouble_22 : decode cX2_toDouble 22 = .ok (.invokevirtual 72, 3) := dk_182 0 72 (dk_at dksX2_toDouble_1 0 rfl rfl)
theorem dX2_toDouble_25 : decode cX2_toDouble 25 = .ok (.dstore_n 2, 1) := dk_73 (dk_at dksX2_toDouble_1 3 rfl rfl)
theorem dX2_toDouble_26 : decode cX2_toDouble 26 = .ok (.iload_n 1, 1) := dk_27 (dk_at dksX2_toDouble_1 4 rfl rfl)
theorem dX2_toDouble_27 : decode cX2_toDouble 27 = .ok (.ifCond .eq 7, 3) := dk_153 0 7 (dk_at dksX2_toDouble_1 5 rfl rfl)
theorem dX2_toDouble_30 : decode cX2_toDouble 30 = .ok (.aload_n 0, 1) := dk_42 (dk_at dksX2_toDouble_1 8 rfl rfl)
theorem dX2_toDouble_31 : decode cX2_toDouble 31 = .ok (.invokevirtual 69, 3) := dk_182 0 69 (dk_at dksX2_toDouble_1 9 rfl rfl)
theorem dX2_toDouble_34 : decode cX2_toDouble 34 = .ok (.iload_n 1, 1) := dk_27 (dk_at dksX2_toDouble_1 12 rfl rfl)
theorem dX2_toDouble_35 : decode cX2_toDouble 35 = .ok (.ifCond .eq 8, 3) := dk_153 0 8 (dk_at dksX2_toDouble_1 13 rfl rfl)
theorem dX2_toDouble_38 : decode cX2_toDouble 38 = .ok (.dload_n 2, 1) := dk_40 (dk_at dksX2_toDouble_1 16 rfl rfl)
theorem dX2_toDouble_39 : decode cX2_toDouble 39 = .ok (.dneg, 1) := dk_119 (dk_at dksX2_toDouble_1 17 rfl rfl)
theorem dX2_toDouble_40 : decode cX2_toDouble 40 = .ok (.goto 4, 3) := dk_167 0 4 (dk_at dksX2_toDouble_1 18 rfl rfl)
theorem dX2_toDouble_43 : decode cX2_toDouble 43 = .ok (.dload_n 2, 1) := dk_40 (dk_at dksX2_toDouble_1 21 rfl rfl)
theorem dX2_toDouble_44 : decode cX2_toDouble 44 = .ok (.dreturn, 1) := dk_175 (dk_at dksX2_toDouble_1 22 rfl rfl)
abbrev cX2_sign : ByteArray := prog_8_method_5_code
def yX2_sign : MethodName := ⟨RX2, "sign", "()I"⟩
def dkwX2_sign_2 : List UInt8 := [167, 0, 12, 27, 154, 0, 7, 3, 167, 0, 4, 4, 172]
abbrev dktX2_sign_2 : List UInt8 := dkwX2_sign_2 ++ []
def dkwX2_sign_1 : List UInt8 := [54, 5, 27, 21, 5, 128, 60, 132, 4, 1, 167, 255, 236, 42, 180, 0, 9, 16, 39, 46, 156, 0, 7, 2]
abbrev dktX2_sign_1 : List UInt8 := dkwX2_sign_1 ++ dktX2_sign_2
def dkwX2_sign_0 : List UInt8 := [3, 60, 42, 180, 0, 9, 77, 44, 190, 62, 3, 54, 4, 21, 4, 29, 162, 0, 20, 44, 21, 4, 46]
abbrev dktX2_sign_0 : List UInt8 := dkwX2_sign_0 ++ dktX2_sign_1
theorem dksX2_sign_0 : cX2_sign.data.toList.drop 0 = dktX2_sign_0 := by decide +kernel
theorem dksX2_sign_1 : cX2_sign.data.toList.drop 23 = dktX2_sign_1 := dk_seg dksX2_sign_0 23 rfl rfl
theorem dksX2_sign_2 : cX2_sign.data.toList.drop 47 = dktX2_sign_2 := dk_seg dksX2_sign_1 24 rfl rfl
theorem dX2_sign_0 : decode cX2_sign 0 = .ok (.iconst 0, 1) := dk_3 (dk_at dksX2_sign_0 0 rfl rfl)
theorem dX2_sign_1 : decode cX2_sign 1 = .ok (.istore_n 1, 1) := dk_60 (dk_at dksX2_sign_0 1 rfl rfl)
theorem dX2_sign_2 : decode cX2_sign 2 = .ok (.aload_n 0, 1) := dk_42 (dk_at dksX2_sign_0 2 rfl rfl)
theorem dX2_sign_3 : decode cX2_sign 3 = .ok (.getfield 9, 3) := dk_180 0 9 (dk_at dksX2_sign_0 3 rfl rfl)
theorem dX2_sign_6 : decode cX2_sign 6 = .ok (.astore_n 2, 1) := dk_77 (dk_at dksX2_sign_0 6 rfl rfl)
theorem dX2_sign_7 : decode cX2_sign 7 = .ok (.aload_n 2, 1) := dk_44 (dk_at dksX2_sign_0 7 rfl rfl)
theorem dX2_sign_8 : decode cX2_sign 8 = .ok (.arraylength, 1) := dk_190 (dk_at dksX2_sign_0 8 rfl rfl)
theorem dX2_sign_9 : decode cX2_sign 9 = .ok (.istore_n 3, 1) := dk_62 (dk_at dksX2_sign_0 9 rfl rfl)
theorem dX2_sign_10 : decode cX2_sign 10 = .ok (.iconst 0, 1) := dk_3 (dk_at dksX2_sign_0 10 rfl rfl)
theorem dX2_sign_11 : decode cX2_sign 11 = .ok (.istore 4, 2) := dk_54 4 (dk_at dksX2_sign_0 11 rfl rfl)
theorem dX2_sign_13 : decode cX2_sign 13 = .ok (.iload 4, 2) := dk_21 4 (dk_at dksX2_sign_0 13 rfl rfl)
theorem dX2_sign_15 : decode cX2_sign 15 = .ok (.iload_n 3, 1) := dk_29 (dk_at dksX2_sign_0 15 rfl rfl)
theorem dX2_sign_16 : decode cX2_sign 16 = .ok (.if_icmp .ge 20, 3) := dk_162 0 20 (dk_at dksX2_sign_0 16 rfl rfl)
theorem dX2_sign_19 : decode cX2_sign 19 = .ok (.aload_n 2, 1) := dk_44 (dk_at dksX2_sign_0 19 rfl rfl)
theorem dX2_sign_20 : decode cX2_sign 20 = .ok (.iload 4, 2) := dk_21 4 (dk_at dksX2_sign_0 20 rfl rfl)
theorem dX2_sign_22 : decode cX2_sign 22 = .ok (.iaload, 1) := dk_46 (dk_at dksX2_sign_0 22 rfl rfl)
theorem dX2_sign_23 : decode cX2_sign 23 = .ok (.istore 5, 2) := dk_54 5 (dk_at dksX2_sign_1 0 rfl rfl)
theorem dX2_sign_25 : decode cX2_sign 25 = .ok (.iload_n 1, 1) := dk_27 (dk_at dksX2_sign_1 2 rfl rfl)
theorem dX2_sign_26 : decode cX2_sign 26 = .ok (.iload 5, 2) := dk_21 5 (dk_at dksX2_sign_1 3 rfl rfl)
theorem dX2_sign_28 : decode cX2_sign 28 = .ok (.ior, 1) := dk_128 (dk_at dksX2_sign_1 5 rfl rfl)
theorem dX2_sign_29 : decode cX2_sign 29 = .ok (.istore_n 1, 1) := dk_60 (dk_at dksX2_sign_1 6 rfl rfl)
theorem dX2_sign_30 : decode cX2_sign 30 = .ok (.iinc 4 1, 3) := dk_132 4 1 (dk_at dksX2_sign_1 7 rfl rfl)
theorem dX2_sign_33 : decode cX2_sign 33 = .ok (.goto (-20), 3) := dk_167 255 236 (dk_at dksX2_sign_1 10 rfl rfl)
theorem dX2_sign_36 : decode cX2_sign 36 = .ok (.aload_n 0, 1) := dk_42 (dk_at dksX2_sign_1 13 rfl rfl)
theorem dX2_sign_37 : decode cX2_sign 37 = .ok (.getfield 9, 3) := dk_180 0 9 (dk_at dksX2_sign_1 14 rfl rfl)
theorem dX2_sign_40 : decode cX2_sign 40 = .ok (.bipush 39, 2) := dk_16 39 (dk_at dksX2_sign_1 17 rfl rfl)
theorem dX2_sign_42 : decode cX2_sign 42 = .ok (.iaload, 1) := dk_46 (dk_at dksX2_sign_1 19 rfl rfl)
theorem dX2_sign_43 : decode cX2_sign 43 = .ok (.ifCond .ge 7, 3) := dk_156 0 7 (dk_at dksX2_sign_1 20 rfl rfl)
theorem dX2_sign_46 : decode cX2_sign 46 = .ok (.iconst (-1), 1) := dk_2 (dk_at dksX2_sign_1 23 rfl rfl)
theorem dX2_sign_47 : decode cX2_sign 47 = .ok (.goto 12, 3) := dk_167 0 12 (dk_at dksX2_sign_2 0 rfl rfl)
theorem dX2_sign_50 : decode cX2_sign 50 = .ok (.iload_n 1, 1) := dk_27 (dk_at dksX2_sign_2 3 rfl rfl)
theorem dX2_sign_51 : decode cX2_sign 51 = .ok (.ifCond .ne 7, 3) := dk_154 0 7 (dk_at dksX2_sign_2 4 rfl rfl)
theorem dX2_sign_54 : decode cX2_sign 54 = .ok (.iconst 0, 1) := dk_3 (dk_at dksX2_sign_2 7 rfl rfl)
theorem dX2_sign_55 : decode cX2_sign 55 = .ok (.goto 4, 3) := dk_167 0 4 (dk_at dksX2_sign_2 8 rfl rfl)
theorem dX2_sign_58 : decode cX2_sign 58 = .ok (.iconst 1, 1) := dk_4 (dk_at dksX2_sign_2 11 rfl rfl)
theorem dX2_sign_59 : decode cX2_sign 59 = .ok (.ireturn, 1) := dk_172 (dk_at dksX2_sign_2 12 rfl rfl)
abbrev cX2_negate : ByteArray := prog_8_method_6_code
def yX2_negate : MethodName := ⟨RX2, "negate", "()V"⟩
def dkwX2_negate_1 : List UInt8 := [97, 64, 42, 180, 0, 9, 29, 31, 136, 79, 31, 16, 32, 125, 64, 132, 3, 1, 167, 255, 218, 177]
abbrev dktX2_negate_1 : List UInt8 := dkwX2_negate_1 ++ []
def dkwX2_negate_0 : List UInt8 := [10, 64, 3, 62, 29, 16, 40, 162, 0, 38, 31, 42, 180, 0, 9, 29, 46, 2, 130, 133, 20, 0, 19, 127]
abbrev dktX2_negate_0 : List UInt8 := dkwX2_negate_0 ++ dktX2_negate_1
theorem dksX2_negate_0 : cX2_negate.data.toList.drop 0 = dktX2_negate_0 := by decide +kernel
theorem dksX2_negate_1 : cX2_negate.data.toList.drop 24 = dktX2_negate_1 := dk_seg dksX2_negate_0 24 rfl rfl
theorem dX2_negate_0 : decode cX2_negate 0 = .ok (.lconst 1, 1) := dk_10 (dk_at dksX2_negate_0 0 rfl rfl)
theorem dX2_negate_1 : decode cX2_negate 1 = .ok (.lstore_n 1, 1) := dk_64 (dk_at dksX2_negate_0 1 rfl rfl)
theorem dX2_negate_2 : decode cX2_negate 2 = .ok (.iconst 0, 1) := dk_3 (dk_at dksX2_negate_0 2 rfl rfl)
theorem dX2_negate_3 : decode cX2_negate 3 = .ok (.istore_n 3, 1) := dk_62 (dk_at dksX2_negate_0 3 rfl rfl)
theorem dX2_negate_4 : decode cX2_negate 4 = .ok (.iload_n 3, 1) := dk_29 (dk_at dksX2_negate_0 4 rfl rfl)
theorem dX2_negate_5 : decode cX2_negate 5 = .ok (.bipush 40, 2) := dk_16 40 (dk_at dksX2_negate_0 5 rfl rfl)
theorem dX2_negate_7 : decode cX2_negate 7 = .ok (.if_icmp .ge 38, 3) := dk_162 0 38 (dk_at dksX2_negate_0 7 rfl rfl)
theorem dX2_negate_10 : decode cX2_negate 10 = .ok (.lload_n 1, 1) := dk_31 (dk_at dksX2_negate_0 10 rfl rfl)
theorem dX2_negate_11 : decode cX2_negate 11 = .ok (.aload_n 0, 1) := dk_42 (dk_at dksX2_negate_0 11 rfl rfl)
theorem dX2_negate_12 : decode cX2_negate 12 = .ok (.getfield 9, 3) := dk_180 0 9 (dk_at dksX2_negate_0 12 rfl rfl)
theorem dX2_negate_15 : decode cX2_negate 15 = .ok (.iload_n 3, 1) := dk_29 (dk_at dksX2_negate_0 15 rfl rfl)
theorem dX2_negate_16 : decode cX2_negate 16 = .ok (.iaload, 1) := dk_46 (dk_at dksX2_negate_0 16 rfl rfl)
theorem dX2_negate_17 : decode cX2_negate 17 = .ok (.iconst (-1), 1) := dk_2 (dk_at dksX2_negate_0 17 rfl rfl)
theorem dX2_negate_18 : decode cX2_negate 18 = .ok (.ixor, 1) := dk_130 (dk_at dksX2_negate_0 18 rfl rfl)
theorem dX2_negate_19 : decode cX2_negate 19 = .ok (.i2l, 1) := dk_133 (dk_at dksX2_negate_0 19 rfl rfl)
theorem dX2_negate_20 : decode cX2_negate 20 = .ok (.ldc2_w 19, 3) := dk_20 0 19 (dk_at dksX2_negate_0 20 rfl rfl)
theorem dX2_negate_23 : decode cX2_negate 23 = .ok (.land, 1) := dk_127 (dk_at dksX2_negate_0 23 rfl rfl)
theorem dX2_negate_24 : decode cX2_negate 24 = .ok (.ladd, 1) := dk_97 (dk_at dksX2_negate_1 0 rfl rfl)
theorem dX2_negate_25 : decode cX2_negate 25 = .ok (.lstore_n 1, 1) := dk_64 (dk_at dksX2_negate_1 1 rfl rfl)
theorem dX2_negate_26 : decode cX2_negate 26 = .ok (.aload_n 0, 1) := dk_42 (dk_at dksX2_negate_1 2 rfl rfl)
theorem dX2_negate_27 : decode cX2_negate 27 = .ok (.getfield 9, 3) := dk_180 0 9 (dk_at dksX2_negate_1 3 rfl rfl)
theorem dX2_negate_30 : decode cX2_negate 30 = .ok (.iload_n 3, 1) := dk_29 (dk_at dksX2_negate_1 6 rfl rfl)
theorem dX2_negate_31 : decode cX2_negate 31 = .ok (.lload_n 1, 1) := dk_31 (dk_at dksX2_negate_1 7 rfl rfl)
theorem dX2_negate_32 : decode cX2_negate 32 = .ok (.l2i, 1) := dk_136 (dk_at dksX2_negate_1 8 rfl rfl)
theorem dX2_negate_33 : decode cX2_negate 33 = .ok (.iastore, 1) := dk_79 (dk_at dksX2_negate_1 9 rfl rfl)
theorem dX2_negate_34 : decode cX2_negate 34 = .ok (.lload_n 1, 1) := dk_31 (dk_at dksX2_negate_1 10 rfl rfl)
theorem dX2_negate_35 : decode cX2_negate 35 = .ok (.bipush 32, 2) := dk_16 32 (dk_at dksX2_negate_1 11 rfl rfl)
theorem dX2_negate_37 : decode cX2_negate 37 = .ok (.lushr, 1) := dk_125 (dk_at dksX2_negate_1 13 rfl rfl)
theorem dX2_negate_38 : decode cX2_negate 38 = .ok (.lstore_n 1, 1) := dk_64 (dk_at dksX2_negate_1 14 rfl rfl)
theorem dX2_negate_39 : decode cX2_negate 39 = .ok (.iinc 3 1, 3) := dk_132 3 1 (dk_at dksX2_negate_1 15 rfl rfl)
theorem dX2_negate_42 : decode cX2_negate 42 = .ok (.goto (-38), 3) := dk_167 255 218 (dk_at dksX2_negate_1 18 rfl rfl)
theorem dX2_negate_45 : decode cX2_negate 45 = .ok (.return_, 1) := dk_177 (dk_at dksX2_negate_1 21 rfl rfl)
abbrev cX2_doubleOfSize : ByteArray := prog_8_method_15_code
def yX2_doubleOfSize : MethodName := ⟨RX2, "doubleOfSize", "()D"⟩
def dkwX2_doubleOfSize_1 : List UInt8 := [33, 167, 0, 10, 28, 133, 16, 52, 121, 33, 97, 184, 0, 56, 175]
abbrev dktX2_doubleOfSize_1 : List UInt8 := dkwX2_doubleOfSize_1 ++ []
def dkwX2_doubleOfSize_0 : List UInt8 := [42, 182, 0, 42, 60, 3, 27, 16, 53, 100, 184, 0, 46, 61, 42, 28, 182, 0, 52, 66, 28, 154, 0, 7]
abbrev dktX2_doubleOfSize_0 : List UInt8 := dkwX2_doubleOfSize_0 ++ dktX2_doubleOfSize_1
theorem dksX2_doubleOfSize_0 : cX2_doubleOfSize.data.toList.drop 0 = dktX2_doubleOfSize_0 := by decide +kernel
theorem dksX2_doubleOfSize_1 : cX2_doubleOfSize.data.toList.drop 24 = dktX2_doubleOfSize_1 := dk_seg dksX2_doubleOfSize_0 24 rfl rfl
theorem dX2_doubleOfSize_0 : decode cX2_doubleOfSize 0 = .ok (.aload_n 0, 1) := dk_42 (dk_at dksX2_doubleOfSize_0 0 rfl rfl)
theorem dX2_doubleOfSize_1 : decode cX2_doubleOfSize 1 = .ok (.invokevirtual 42, 3) := dk_182 0 42 (dk_at dksX2_doubleOfSize_0 1 rfl rfl)
theorem dX2_doubleOfSize_4 : decode cX2_doubleOfSize 4 = .ok (.istore_n 1, 1) := dk_60 (dk_at dksX2_doubleOfSize_0 4 rfl rfl)
theorem dX2_doubleOfSize_5 : decode cX2_doubleOfSize 5 = .ok (.iconst 0, 1) := dk_3 (dk_at dksX2_doubleOfSize_0 5 rfl rfl)
theorem dX2_doubleOfSize_6 : decode cX2_doubleOfSize 6 = .ok (.iload_n 1, 1) := dk_27 (dk_at dksX2_doubleOfSize_0 6 rfl rfl)
theorem dX2_doubleOfSize_7 : decode cX2_doubleOfSize 7 = .ok (.bipush 53, 2) := dk_16 53 (dk_at dksX2_doubleOfSize_0 7 rfl rfl)
theorem dX2_doubleOfSize_9 : decode cX2_doubleOfSize 9 = .ok (.isub, 1) := dk_100 (dk_at dksX2_doubleOfSize_0 9 rfl rfl)
theorem dX2_doubleOfSize_10 : decode cX2_doubleOfSize 10 = .ok (.invokestatic 46, 3) := dk_184 0 46 (dk_at dksX2_doubleOfSize_0 10 rfl rfl)
theorem dX2_doubleOfSize_13 : decode cX2_doubleOfSize 13 = .ok (.istore_n 2, 1) := dk_61 (dk_at dksX2_doubleOfSize_0 13 rfl rfl)
theorem dX2_doubleOfSize_14 : decode cX2_doubleOfSize 14 = .ok (.aload_n 0, 1) := dk_42 (dk_at dksX2_doubleOfSize_0 14 rfl rfl)
theorem dX2_doubleOfSize_15 : decode cX2_doubleOfSize 15 = .ok (.iload_n 2, 1) := dk_28 (dk_at dksX2_doubleOfSize_0 15 rfl rfl)
theorem dX2_doubleOfSize_16 : decode cX2_doubleOfSize 16 = .ok (.invokevirtual 52, 3) := dk_182 0 52 (dk_at dksX2_doubleOfSize_0 16 rfl rfl)
theorem dX2_doubleOfSize_19 : decode cX2_doubleOfSize 19 = .ok (.lstore_n 3, 1) := dk_66 (dk_at dksX2_doubleOfSize_0 19 rfl rfl)
theorem dX2_doubleOfSize_20 : decode cX2_doubleOfSize 20 = .ok (.iload_n 2, 1) := dk_28 (dk_at dksX2_doubleOfSize_0 20 rfl rfl)
theorem dX2_doubleOfSize_21 : decode cX2_doubleOfSize 21 = .ok (.ifCond .ne 7, 3) := dk_154 0 7 (dk_at dksX2_doubleOfSize_0 21 rfl rfl)
theorem dX2_doubleOfSize_24 : decode cX2_doubleOfSize 24 = .ok (.lload_n 3, 1) := dk_33 (dk_at dksX2_doubleOfSize_1 0 rfl rfl)
theorem dX2_doubleOfSize_25 : decode cX2_doubleOfSize 25 = .ok (.goto 10, 3) := dk_167 0 10 (dk_at dksX2_doubleOfSize_1 1 rfl rfl)
theorem dX2_doubleOfSize_28 : decode cX2_doubleOfSize 28 = .ok (.iload_n 2, 1) := dk_28 (dk_at dksX2_doubleOfSize_1 4 rfl rfl)
theorem dX2_doubleOfSize_29 : decode cX2_doubleOfSize 29 = .ok (.i2l, 1) := dk_133 (dk_at dksX2_doubleOfSize_1 5 rfl rfl)
theorem dX2_doubleOfSize_30 : decode cX2_doubleOfSize 30 = .ok (.bipush 52, 2) := dk_16 52 (dk_at dksX2_doubleOfSize_1 6 rfl rfl)
theorem dX2_doubleOfSize_32 : decode cX2_doubleOfSize 32 = .ok (.lshl, 1) := dk_121 (dk_at dksX2_doubleOfSize_1 8 rfl rfl)
theorem dX2_doubleOfSize_33 : decode cX2_doubleOfSize 33 = .ok (.lload_n 3, 1) := dk_33 (dk_at dksX2_doubleOfSize_1 9 rfl rfl)
theorem dX2_doubleOfSize_34 : decode cX2_doubleOfSize 34 = .ok (.ladd, 1) := dk_97 (dk_at dksX2_doubleOfSize_1 10 rfl rfl)
theorem dX2_doubleOfSize_35 : decode cX2_doubleOfSize 35 = .ok (.invokestatic 56, 3) := dk_184 0 56 (dk_at dksX2_doubleOfSize_1 11 rfl rfl)
theorem dX2_doubleOfSize_38 : decode cX2_doubleOfSize 38 = .ok (.dreturn, 1) := dk_175 (dk_at dksX2_doubleOfSize_1 14 rfl rfl)
abbrev cX2_length : ByteArray := prog_8_method_13_code
def yX2_length : MethodName := ⟨RX2, "length", "()I"⟩
def dkwX2_length_1 : List UInt8 := [27, 172]
abbrev dktX2_length_1 : List UInt8 := dkwX2_length_1 ++ []
def dkwX2_length_0 : List UInt8 := [17, 5, 0, 60, 27, 158, 0, 19, 42, 27, 4, 100, 182, 0, 38, 154, 0, 9, 132, 1, 255, 167, 255, 239]
abbrev dktX2_length_0 : List UInt8 := dkwX2_length_0 ++ dktX2_length_1
theorem dksX2_length_0 : cX2_length.data.toList.drop 0 = dktX2_length_0 := by decide +kernel
theorem dksX2_length_1 : cX2_length.data.toList.drop 24 = dktX2_length_1 := dk_seg dksX2_length_0 24 rfl rfl
theorem dX2_length_0 : decode cX2_length 0 = .ok (.sipush 1280, 3) := dk_17 5 0 (dk_at dksX2_length_0 0 rfl rfl)
theorem dX2_length_3 : decode cX2_length 3 = .ok (.istore_n 1, 1) := dk_60 (dk_at dksX2_length_0 3 rfl rfl)
theorem dX2_length_4 : decode cX2_length 4 = .ok (.iload_n 1, 1) := dk_27 (dk_at dksX2_length_0 4 rfl rfl)
theorem dX2_length_5 : decode cX2_length 5 = .ok (.ifCond .le 19, 3) := dk_158 0 19 (dk_at dksX2_length_0 5 rfl rfl)
theorem dX2_length_8 : decode cX2_length 8 = .ok (.aload_n 0, 1) := dk_42 (dk_at dksX2_length_0 8 rfl rfl)
theorem dX2_length_9 : decode cX2_length 9 = .ok (.iload_n 1, 1) := dk_27 (dk_at dksX2_length_0 9 rfl rfl)
theorem dX2_length_10 : decode cX2_length 10 = .ok (.iconst 1, 1) := dk_4 (dk_at dksX2_length_0 10 rfl rfl)
theorem dX2_length_11 : decode cX2_length 11 = .ok (.isub, 1) := dk_100 (dk_at dksX2_length_0 11 rfl rfl)
theorem dX2_length_12 : decode cX2_length 12 = .ok (.invokevirtual 38, 3) := dk_182 0 38 (dk_at dksX2_length_0 12 rfl rfl)
theorem dX2_length_15 : decode cX2_length 15 = .ok (.ifCond .ne 9, 3) := dk_154 0 9 (dk_at dksX2_length_0 15 rfl rfl)
theorem dX2_length_18 : decode cX2_length 18 = .ok (.iinc 1 (-1), 3) := dk_132 1 255 (dk_at dksX2_length_0 18 rfl rfl)
theorem dX2_length_21 : decode cX2_length 21 = .ok (.goto (-17), 3) := dk_167 255 239 (dk_at dksX2_length_0 21 rfl rfl)
theorem dX2_length_24 : decode cX2_length 24 = .ok (.iload_n 1, 1) := dk_27 (dk_at dksX2_length_1 0 rfl rfl)
theorem dX2_length_25 : decode cX2_length 25 = .ok (.ireturn, 1) := dk_172 (dk_at dksX2_length_1 1 rfl rfl)
abbrev cX2_isSet : ByteArray := prog_8_method_12_code
def yX2_isSet : MethodName := ⟨RX2, "isSet", "(I)Z"⟩
def dkwX2_isSet_1 : List UInt8 := [172]
abbrev dktX2_isSet_1 : List UInt8 := dkwX2_isSet_1 ++ []
def dkwX2_isSet_0 : List UInt8 := [42, 180, 0, 9, 27, 8, 122, 46, 27, 16, 31, 126, 124, 4, 126, 4, 160, 0, 7, 4, 167, 0, 4, 3]
abbrev dktX2_isSet_0 : List UInt8 := dkwX2_isSet_0 ++ dktX2_isSet_1
theorem dksX2_isSet_0 : cX2_isSet.data.toList.drop 0 = dktX2_isSet_0 := by decide +kernel
theorem dksX2_isSet_1 : cX2_isSet.data.toList.drop 24 = dktX2_isSet_1 := dk_seg dksX2_isSet_0 24 rfl rfl
theorem dX2_isSet_0 : decode cX2_isSet 0 = .ok (.aload_n 0, 1) := dk_42 (dk_at dksX2_isSet_0 0 rfl rfl)
theorem dX2_isSet_1 : decode cX2_isSet 1 = .ok (.getfield 9, 3) := dk_180 0 9 (dk_at dksX2_isSet_0 1 rfl rfl)
theorem dX2_isSet_4 : decode cX2_isSet 4 = .ok (.iload_n 1, 1) := dk_27 (dk_at dksX2_isSet_0 4 rfl rfl)
theorem dX2_isSet_5 : decode cX2_isSet 5 = .ok (.iconst 5, 1) := dk_8 (dk_at dksX2_isSet_0 5 rfl rfl)
theorem dX2_isSet_6 : decode cX2_isSet 6 = .ok (.ishr, 1) := dk_122 (dk_at dksX2_isSet_0 6 rfl rfl)
theorem dX2_isSet_7 : decode cX2_isSet 7 = .ok (.iaload, 1) := dk_46 (dk_at dksX2_isSet_0 7 rfl rfl)
theorem dX2_isSet_8 : decode cX2_isSet 8 = .ok (.iload_n 1, 1) := dk_27 (dk_at dksX2_isSet_0 8 rfl rfl)
theorem dX2_isSet_9 : decode cX2_isSet 9 = .ok (.bipush 31, 2) := dk_16 31 (dk_at dksX2_isSet_0 9 rfl rfl)
theorem dX2_isSet_11 : decode cX2_isSet 11 = .ok (.iand, 1) := dk_126 (dk_at dksX2_isSet_0 11 rfl rfl)
theorem dX2_isSet_12 : decode cX2_isSet 12 = .ok (.iushr, 1) := dk_124 (dk_at dksX2_isSet_0 12 rfl rfl)
theorem dX2_isSet_13 : decode cX2_isSet 13 = .ok (.iconst 1, 1) := dk_4 (dk_at dksX2_isSet_0 13 rfl rfl)
theorem dX2_isSet_14 : decode cX2_isSet 14 = .ok (.iand, 1) := dk_126 (dk_at dksX2_isSet_0 14 rfl rfl)
theorem dX2_isSet_15 : decode cX2_isSet 15 = .ok (.iconst 1, 1) := dk_4 (dk_at dksX2_isSet_0 15 rfl rfl)
theorem dX2_isSet_16 : decode cX2_isSet 16 = .ok (.if_icmp .ne 7, 3) := dk_160 0 7 (dk_at dksX2_isSet_0 16 rfl rfl)
theorem dX2_isSet_19 : decode cX2_isSet 19 = .ok (.iconst 1, 1) := dk_4 (dk_at dksX2_isSet_0 19 rfl rfl)
theorem dX2_isSet_20 : decode cX2_isSet 20 = .ok (.goto 4, 3) := dk_167 0 4 (dk_at dksX2_isSet_0 20 rfl rfl)
theorem dX2_isSet_23 : decode cX2_isSet 23 = .ok (.iconst 0, 1) := dk_3 (dk_at dksX2_isSet_0 23 rfl rfl)
theorem dX2_isSet_24 : decode cX2_isSet 24 = .ok (.ireturn, 1) := dk_172 (dk_at dksX2_isSet_1 0 rfl rfl)
abbrev cX2_rounded : ByteArray := prog_8_method_14_code
def yX2_rounded : MethodName := ⟨RX2, "rounded", "(I)J"⟩
def dkwX2_rounded_5 : List UInt8 := [32, 173]
abbrev dktX2_rounded_5 : List UInt8 := dkwX2_rounded_5 ++ []
def dkwX2_rounded_4 : List UInt8 := [21, 4, 153, 0, 22, 21, 5, 154, 0, 11, 32, 10, 127, 10, 148, 154, 0, 9, 32, 10, 97, 167, 0, 4]
abbrev dktX2_rounded_4 : List UInt8 := dkwX2_rounded_4 ++ dktX2_rounded_5
def dkwX2_rounded_3 : List UInt8 := [27, 4, 100, 162, 0, 20, 21, 5, 42, 21, 6, 182, 0, 38, 128, 54, 5, 132, 6, 1, 167, 255, 234]
abbrev dktX2_rounded_3 : List UInt8 := dkwX2_rounded_3 ++ dktX2_rounded_4
def dkwX2_rounded_2 : List UInt8 := [27, 4, 100, 182, 0, 38, 153, 0, 7, 4, 167, 0, 4, 3, 54, 4, 3, 54, 5, 3, 54, 6, 21, 6]
abbrev dktX2_rounded_2 : List UInt8 := dkwX2_rounded_2 ++ dktX2_rounded_3
def dkwX2_rounded_1 : List UInt8 := [182, 0, 38, 153, 0, 7, 10, 167, 0, 4, 9, 129, 65, 132, 4, 255, 167, 255, 228, 27, 158, 0, 17, 42]
abbrev dktX2_rounded_1 : List UInt8 := dkwX2_rounded_1 ++ dktX2_rounded_2
def dkwX2_rounded_0 : List UInt8 := [9, 65, 42, 182, 0, 42, 4, 100, 54, 4, 21, 4, 27, 161, 0, 28, 32, 4, 121, 42, 21, 4]
abbrev dktX2_rounded_0 : List UInt8 := dkwX2_rounded_0 ++ dktX2_rounded_1
theorem dksX2_rounded_0 : cX2_rounded.data.toList.drop 0 = dktX2_rounded_0 := by decide +kernel
theorem dksX2_rounded_1 : cX2_rounded.data.toList.drop 22 = dktX2_rounded_1 := dk_seg dksX2_rounded_0 22 rfl rfl
theorem dksX2_rounded_2 : cX2_rounded.data.toList.drop 46 = dktX2_rounded_2 := dk_seg dksX2_rounded_1 24 rfl rfl
theorem dksX2_rounded_3 : cX2_rounded.data.toList.drop 70 = dktX2_rounded_3 := dk_seg dksX2_rounded_2 24 rfl rfl
theorem dksX2_rounded_4 : cX2_rounded.data.toList.drop 93 = dktX2_rounded_4 := dk_seg dksX2_rounded_3 23 rfl rfl
theorem dksX2_rounded_5 : cX2_rounded.data.toList.drop 117 = dktX2_rounded_5 := dk_seg dksX2_rounded_4 24 rfl rfl
theorem dX2_rounded_0 : decode cX2_rounded 0 = .ok (.lconst 0, 1) := dk_9 (dk_at dksX2_rounded_0 0 rfl rfl)
theorem dX2_rounded_1 : decode cX2_rounded 1 = .ok (.lstore_n 2, 1) := dk_65 (dk_at dksX2_rounded_0 1 rfl rfl)
theorem dX2_rounded_2 : decode cX2_rounded 2 = .ok (.aload_n 0, 1) := dk_42 (dk_at dksX2_rounded_0 2 rfl rfl)
theorem dX2_rounded_3 : decode cX2_rounded 3 = .ok (.invokevirtual 42, 3) := dk_182 0 42 (dk_at dksX2_rounded_0 3 rfl rfl)
theorem dX2_rounded_6 : decode cX2_rounded 6 = .ok (.iconst 1, 1) := dk_4 (dk_at dksX2_rounded_0 6 rfl rfl)
theorem dX2_rounded_7 : decode cX2_rounded 7 = .ok (.isub, 1) := dk_100 (dk_at dksX2_rounded_0 7 rfl rfl)
theorem dX2_rounded_8 : decode cX2_rounded 8 = .ok (.istore 4, 2) := dk_54 4 (dk_at dksX2_rounded_0 8 rfl rfl)
theorem dX2_rounded_10 : decode cX2_rounded 10 = .ok (.iload 4, 2) := dk_21 4 (dk_at dksX2_rounded_0 10 rfl rfl)
theorem dX2_rounded_12 : decode cX2_rounded 12 = .ok (.iload_n 1, 1) := dk_27 (dk_at dksX2_rounded_0 12 rfl rfl)
theorem dX2_rounded_13 : decode cX2_rounded 13 = .ok (.if_icmp .lt 28, 3) := dk_161 0 28 (dk_at dksX2_rounded_0 13 rfl rfl)
theorem dX2_rounded_16 : decode cX2_rounded 16 = .ok (.lload_n 2, 1) := dk_32 (dk_at dksX2_rounded_0 16 rfl rfl)
theorem dX2_rounded_17 : decode cX2_rounded 17 = .ok (.iconst 1, 1) := dk_4 (dk_at dksX2_rounded_0 17 rfl rfl)
theorem dX2_rounded_18 : decode cX2_rounded 18 = .ok (.lshl, 1) := dk_121 (dk_at dksX2_rounded_0 18 rfl rfl)
theorem dX2_rounded_19 : decode cX2_rounded 19 = .ok (.aload_n 0, 1) := dk_42 (dk_at dksX2_rounded_0 19 rfl rfl)
theorem dX2_rounded_20 : decode cX2_rounded 20 = .ok (.iload 4, 2) := dk_21 4 (dk_at dksX2_rounded_0 20 rfl rfl)
theorem dX2_rounded_22 : decode cX2_rounded 22 = .ok (.invokevirtual 38, 3) := dk_182 0 38 (dk_at dksX2_rounded_1 0 rfl rfl)
theorem dX2_rounded_25 : decode cX2_rounded 25 = .ok (.ifCond .eq 7, 3) := dk_153 0 7 (dk_at dksX2_rounded_1 3 rfl rfl)
theorem dX2_rounded_28 : decode cX2_rounded 28 = .ok (.lconst 1, 1) := dk_10 (dk_at dksX2_rounded_1 6 rfl rfl)
theorem dX2_rounded_29 : decode cX2_rounded 29 = .ok (.goto 4, 3) := dk_167 0 4 (dk_at dksX2_rounded_1 7 rfl rfl)
theorem dX2_rounded_32 : decode cX2_rounded 32 = .ok (.lconst 0, 1) := dk_9 (dk_at dksX2_rounded_1 10 rfl rfl)
theorem dX2_rounded_33 : decode cX2_rounded 33 = .ok (.lor, 1) := dk_129 (dk_at dksX2_rounded_1 11 rfl rfl)
theorem dX2_rounded_34 : decode cX2_rounded 34 = .ok (.lstore_n 2, 1) := dk_65 (dk_at dksX2_rounded_1 12 rfl rfl)
theorem dX2_rounded_35 : decode cX2_rounded 35 = .ok (.iinc 4 (-1), 3) := dk_132 4 255 (dk_at dksX2_rounded_1 13 rfl rfl)
theorem dX2_rounded_38 : decode cX2_rounded 38 = .ok (.goto (-28), 3) := dk_167 255 228 (dk_at dksX2_rounded_1 16 rfl rfl)
theorem dX2_rounded_41 : decode cX2_rounded 41 = .ok (.iload_n 1, 1) := dk_27 (dk_at dksX2_rounded_1 19 rfl rfl)
theorem dX2_rounded_42 : decode cX2_rounded 42 = .ok (.ifCond .le 17, 3) := dk_158 0 17 (dk_at dksX2_rounded_1 20 rfl rfl)
theorem dX2_rounded_45 : decode cX2_rounded 45 = .ok (.aload_n 0, 1) := dk_42 (dk_at dksX2_rounded_1 23 rfl rfl)
theorem dX2_rounded_46 : decode cX2_rounded 46 = .ok (.iload_n 1, 1) := dk_27 (dk_at dksX2_rounded_2 0 rfl rfl)
theorem dX2_rounded_47 : decode cX2_rounded 47 = .ok (.iconst 1, 1) := dk_4 (dk_at dksX2_rounded_2 1 rfl rfl)
theorem dX2_rounded_48 : decode cX2_rounded 48 = .ok (.isub, 1) := dk_100 (dk_at dksX2_rounded_2 2 rfl rfl)
theorem dX2_rounded_49 : decode cX2_rounded 49 = .ok (.invokevirtual 38, 3) := dk_182 0 38 (dk_at dksX2_rounded_2 3 rfl rfl)
theorem dX2_rounded_52 : decode cX2_rounded 52 = .ok (.ifCond .eq 7, 3) := dk_153 0 7 (dk_at dksX2_rounded_2 6 rfl rfl)
theorem dX2_rounded_55 : decode cX2_rounded 55 = .ok (.iconst 1, 1) := dk_4 (dk_at dksX2_rounded_2 9 rfl rfl)
theorem dX2_rounded_56 : decode cX2_rounded 56 = .ok (.goto 4, 3) := dk_167 0 4 (dk_at dksX2_rounded_2 10 rfl rfl)
theorem dX2_rounded_59 : decode cX2_rounded 59 = .ok (.iconst 0, 1) := dk_3 (dk_at dksX2_rounded_2 13 rfl rfl)
theorem dX2_rounded_60 : decode cX2_rounded 60 = .ok (.istore 4, 2) := dk_54 4 (dk_at dksX2_rounded_2 14 rfl rfl)
theorem dX2_rounded_62 : decode cX2_rounded 62 = .ok (.iconst 0, 1) := dk_3 (dk_at dksX2_rounded_2 16 rfl rfl)
theorem dX2_rounded_63 : decode cX2_rounded 63 = .ok (.istore 5, 2) := dk_54 5 (dk_at dksX2_rounded_2 17 rfl rfl)
theorem dX2_rounded_65 : decode cX2_rounded 65 = .ok (.iconst 0, 1) := dk_3 (dk_at dksX2_rounded_2 19 rfl rfl)
theorem dX2_rounded_66 : decode cX2_rounded 66 = .ok (.istore 6, 2) := dk_54 6 (dk_at dksX2_rounded_2 20 rfl rfl)
theorem dX2_rounded_68 : decode cX2_rounded 68 = .ok (.iload 6, 2) := dk_21 6 (dk_at dksX2_rounded_2 22 rfl rfl)
theorem dX2_rounded_70 : decode cX2_rounded 70 = .ok (.iload_n 1, 1) := dk_27 (dk_at dksX2_rounded_3 0 rfl rfl)
theorem dX2_rounded_71 : decode cX2_rounded 71 = .ok (.iconst 1, 1) := dk_4 (dk_at dksX2_rounded_3 1 rfl rfl)
theorem dX2_rounded_72 : decode cX2_rounded 72 = .ok (.isub, 1) := dk_100 (dk_at dksX2_rounded_3 2 rfl rfl)
theorem dX2_rounded_73 : decode cX2_rounded 73 = .ok (.if_icmp .ge 20, 3) := dk_162 0 20 (dk_at dksX2_rounded_3 3 rfl rfl)
theorem dX2_rounded_76 : decode cX2_rounded 76 = .ok (.iload 5, 2) := dk_21 5 (dk_at dksX2_rounded_3 6 rfl rfl)
theorem dX2_rounded_78 : decode cX2_rounded 78 = .ok (.aload_n 0, 1) := dk_42 (dk_at dksX2_rounded_3 8 rfl rfl)
theorem dX2_rounded_79 : decode cX2_rounded 79 = .ok (.iload 6, 2) := dk_21 6 (dk_at dksX2_rounded_3 9 rfl rfl)
theorem dX2_rounded_81 : decode cX2_rounded 81 = .ok (.invokevirtual 38, 3) := dk_182 0 38 (dk_at dksX2_rounded_3 11 rfl rfl)
theorem dX2_rounded_84 : decode cX2_rounded 84 = .ok (.ior, 1) := dk_128 (dk_at dksX2_rounded_3 14 rfl rfl)
theorem dX2_rounded_85 : decode cX2_rounded 85 = .ok (.istore 5, 2) := dk_54 5 (dk_at dksX2_rounded_3 15 rfl rfl)
theorem dX2_rounded_87 : decode cX2_rounded 87 = .ok (.iinc 6 1, 3) := dk_132 6 1 (dk_at dksX2_rounded_3 17 rfl rfl)
theorem dX2_rounded_90 : decode cX2_rounded 90 = .ok (.goto (-22), 3) := dk_167 255 234 (dk_at dksX2_rounded_3 20 rfl rfl)
theorem dX2_rounded_93 : decode cX2_rounded 93 = .ok (.iload 4, 2) := dk_21 4 (dk_at dksX2_rounded_4 0 rfl rfl)
theorem dX2_rounded_95 : decode cX2_rounded 95 = .ok (.ifCond .eq 22, 3) := dk_153 0 22 (dk_at dksX2_rounded_4 2 rfl rfl)
theorem dX2_rounded_98 : decode cX2_rounded 98 = .ok (.iload 5, 2) := dk_21 5 (dk_at dksX2_rounded_4 5 rfl rfl)
theorem dX2_rounded_100 : decode cX2_rounded 100 = .ok (.ifCond .ne 11, 3) := dk_154 0 11 (dk_at dksX2_rounded_4 7 rfl rfl)
theorem dX2_rounded_103 : decode cX2_rounded 103 = .ok (.lload_n 2, 1) := dk_32 (dk_at dksX2_rounded_4 10 rfl rfl)
theorem dX2_rounded_104 : decode cX2_rounded 104 = .ok (.lconst 1, 1) := dk_10 (dk_at dksX2_rounded_4 11 rfl rfl)
theorem dX2_rounded_105 : decode cX2_rounded 105 = .ok (.land, 1) := dk_127 (dk_at dksX2_rounded_4 12 rfl rfl)
theorem dX2_rounded_106 : decode cX2_rounded 106 = .ok (.lconst 1, 1) := dk_10 (dk_at dksX2_rounded_4 13 rfl rfl)
theorem dX2_rounded_107 : decode cX2_rounded 107 = .ok (.lcmp, 1) := dk_148 (dk_at dksX2_rounded_4 14 rfl rfl)
theorem dX2_rounded_108 : decode cX2_rounded 108 = .ok (.ifCond .ne 9, 3) := dk_154 0 9 (dk_at dksX2_rounded_4 15 rfl rfl)
theorem dX2_rounded_111 : decode cX2_rounded 111 = .ok (.lload_n 2, 1) := dk_32 (dk_at dksX2_rounded_4 18 rfl rfl)
theorem dX2_rounded_112 : decode cX2_rounded 112 = .ok (.lconst 1, 1) := dk_10 (dk_at dksX2_rounded_4 19 rfl rfl)
theorem dX2_rounded_113 : decode cX2_rounded 113 = .ok (.ladd, 1) := dk_97 (dk_at dksX2_rounded_4 20 rfl rfl)
theorem dX2_rounded_114 : decode cX2_rounded 114 = .ok (.goto 4, 3) := dk_167 0 4 (dk_at dksX2_rounded_4 21 rfl rfl)
theorem dX2_rounded_117 : decode cX2_rounded 117 = .ok (.lload_n 2, 1) := dk_32 (dk_at dksX2_rounded_5 0 rfl rfl)
theorem dX2_rounded_118 : decode cX2_rounded 118 = .ok (.lreturn, 1) := dk_173 (dk_at dksX2_rounded_5 1 rfl rfl)
abbrev cX2_compare : ByteArray := prog_8_method_11_code
def yX2_compare : MethodName := ⟨RX2, "compare", "(LRoundingAuditor$Exact;)I"⟩
def dkwX2_compare_3 : List UInt8 := [132, 2, 255, 167, 255, 187, 3, 172]
abbrev dktX2_compare_3 : List UInt8 := dkwX2_compare_3 ++ []
def dkwX2_compare_2 : List UInt8 := [28, 16, 39, 162, 0, 8, 18, 37, 167, 0, 4, 3, 96, 162, 0, 7, 2, 167, 0, 4, 4, 172]
abbrev dktX2_compare_2 : List UInt8 := dkwX2_compare_2 ++ dktX2_compare_3
def dkwX2_compare_1 : List UInt8 := [180, 0, 9, 28, 46, 28, 16, 39, 162, 0, 8, 18, 37, 167, 0, 4, 3, 96, 43, 180, 0, 9, 28, 46]
abbrev dktX2_compare_1 : List UInt8 := dkwX2_compare_1 ++ dktX2_compare_2
def dkwX2_compare_0 : List UInt8 := [16, 39, 61, 28, 155, 0, 71, 42, 180, 0, 9, 28, 46, 43, 180, 0, 9, 28, 46, 159, 0, 50, 42]
abbrev dktX2_compare_0 : List UInt8 := dkwX2_compare_0 ++ dktX2_compare_1
theorem dksX2_compare_0 : cX2_compare.data.toList.drop 0 = dktX2_compare_0 := by decide +kernel
theorem dksX2_compare_1 : cX2_compare.data.toList.drop 23 = dktX2_compare_1 := dk_seg dksX2_compare_0 23 rfl rfl
theorem dksX2_compare_2 : cX2_compare.data.toList.drop 47 = dktX2_compare_2 := dk_seg dksX2_compare_1 24 rfl rfl
theorem dksX2_compare_3 : cX2_compare.data.toList.drop 69 = dktX2_compare_3 := dk_seg dksX2_compare_2 22 rfl rfl
theorem dX2_compare_0 : decode cX2_compare 0 = .ok (.bipush 39, 2) := dk_16 39 (dk_at dksX2_compare_0 0 rfl rfl)
theorem dX2_compare_2 : decode cX2_compare 2 = .ok (.istore_n 2, 1) := dk_61 (dk_at dksX2_compare_0 2 rfl rfl)
theorem dX2_compare_3 : decode cX2_compare 3 = .ok (.iload_n 2, 1) := dk_28 (dk_at dksX2_compare_0 3 rfl rfl)
theorem dX2_compare_4 : decode cX2_compare 4 = .ok (.ifCond .lt 71, 3) := dk_155 0 71 (dk_at dksX2_compare_0 4 rfl rfl)
theorem dX2_compare_7 : decode cX2_compare 7 = .ok (.aload_n 0, 1) := dk_42 (dk_at dksX2_compare_0 7 rfl rfl)
theorem dX2_compare_8 : decode cX2_compare 8 = .ok (.getfield 9, 3) := dk_180 0 9 (dk_at dksX2_compare_0 8 rfl rfl)
theorem dX2_compare_11 : decode cX2_compare 11 = .ok (.iload_n 2, 1) := dk_28 (dk_at dksX2_compare_0 11 rfl rfl)
theorem dX2_compare_12 : decode cX2_compare 12 = .ok (.iaload, 1) := dk_46 (dk_at dksX2_compare_0 12 rfl rfl)
theorem dX2_compare_13 : decode cX2_compare 13 = .ok (.aload_n 1, 1) := dk_43 (dk_at dksX2_compare_0 13 rfl rfl)
theorem dX2_compare_14 : decode cX2_compare 14 = .ok (.getfield 9, 3) := dk_180 0 9 (dk_at dksX2_compare_0 14 rfl rfl)
theorem dX2_compare_17 : decode cX2_compare 17 = .ok (.iload_n 2, 1) := dk_28 (dk_at dksX2_compare_0 17 rfl rfl)
theorem dX2_compare_18 : decode cX2_compare 18 = .ok (.iaload, 1) := dk_46 (dk_at dksX2_compare_0 18 rfl rfl)
theorem dX2_compare_19 : decode cX2_compare 19 = .ok (.if_icmp .eq 50, 3) := dk_159 0 50 (dk_at dksX2_compare_0 19 rfl rfl)
theorem dX2_compare_22 : decode cX2_compare 22 = .ok (.aload_n 0, 1) := dk_42 (dk_at dksX2_compare_0 22 rfl rfl)
theorem dX2_compare_23 : decode cX2_compare 23 = .ok (.getfield 9, 3) := dk_180 0 9 (dk_at dksX2_compare_1 0 rfl rfl)
theorem dX2_compare_26 : decode cX2_compare 26 = .ok (.iload_n 2, 1) := dk_28 (dk_at dksX2_compare_1 3 rfl rfl)
theorem dX2_compare_27 : decode cX2_compare 27 = .ok (.iaload, 1) := dk_46 (dk_at dksX2_compare_1 4 rfl rfl)
theorem dX2_compare_28 : decode cX2_compare 28 = .ok (.iload_n 2, 1) := dk_28 (dk_at dksX2_compare_1 5 rfl rfl)
theorem dX2_compare_29 : decode cX2_compare 29 = .ok (.bipush 39, 2) := dk_16 39 (dk_at dksX2_compare_1 6 rfl rfl)
theorem dX2_compare_31 : decode cX2_compare 31 = .ok (.if_icmp .ge 8, 3) := dk_162 0 8 (dk_at dksX2_compare_1 8 rfl rfl)
theorem dX2_compare_34 : decode cX2_compare 34 = .ok (.ldc 37, 2) := dk_18 37 (dk_at dksX2_compare_1 11 rfl rfl)
theorem dX2_compare_36 : decode cX2_compare 36 = .ok (.goto 4, 3) := dk_167 0 4 (dk_at dksX2_compare_1 13 rfl rfl)
theorem dX2_compare_39 : decode cX2_compare 39 = .ok (.iconst 0, 1) := dk_3 (dk_at dksX2_compare_1 16 rfl rfl)
theorem dX2_compare_40 : decode cX2_compare 40 = .ok (.iadd, 1) := dk_96 (dk_at dksX2_compare_1 17 rfl rfl)
theorem dX2_compare_41 : decode cX2_compare 41 = .ok (.aload_n 1, 1) := dk_43 (dk_at dksX2_compare_1 18 rfl rfl)
theorem dX2_compare_42 : decode cX2_compare 42 = .ok (.getfield 9, 3) := dk_180 0 9 (dk_at dksX2_compare_1 19 rfl rfl)
theorem dX2_compare_45 : decode cX2_compare 45 = .ok (.iload_n 2, 1) := dk_28 (dk_at dksX2_compare_1 22 rfl rfl)
theorem dX2_compare_46 : decode cX2_compare 46 = .ok (.iaload, 1) := dk_46 (dk_at dksX2_compare_1 23 rfl rfl)
theorem dX2_compare_47 : decode cX2_compare 47 = .ok (.iload_n 2, 1) := dk_28 (dk_at dksX2_compare_2 0 rfl rfl)
theorem dX2_compare_48 : decode cX2_compare 48 = .ok (.bipush 39, 2) := dk_16 39 (dk_at dksX2_compare_2 1 rfl rfl)
theorem dX2_compare_50 : decode cX2_compare 50 = .ok (.if_icmp .ge 8, 3) := dk_162 0 8 (dk_at dksX2_compare_2 3 rfl rfl)
theorem dX2_compare_53 : decode cX2_compare 53 = .ok (.ldc 37, 2) := dk_18 37 (dk_at dksX2_compare_2 6 rfl rfl)
theorem dX2_compare_55 : decode cX2_compare 55 = .ok (.goto 4, 3) := dk_167 0 4 (dk_at dksX2_compare_2 8 rfl rfl)
theorem dX2_compare_58 : decode cX2_compare 58 = .ok (.iconst 0, 1) := dk_3 (dk_at dksX2_compare_2 11 rfl rfl)
theorem dX2_compare_59 : decode cX2_compare 59 = .ok (.iadd, 1) := dk_96 (dk_at dksX2_compare_2 12 rfl rfl)
theorem dX2_compare_60 : decode cX2_compare 60 = .ok (.if_icmp .ge 7, 3) := dk_162 0 7 (dk_at dksX2_compare_2 13 rfl rfl)
theorem dX2_compare_63 : decode cX2_compare 63 = .ok (.iconst (-1), 1) := dk_2 (dk_at dksX2_compare_2 16 rfl rfl)
theorem dX2_compare_64 : decode cX2_compare 64 = .ok (.goto 4, 3) := dk_167 0 4 (dk_at dksX2_compare_2 17 rfl rfl)
theorem dX2_compare_67 : decode cX2_compare 67 = .ok (.iconst 1, 1) := dk_4 (dk_at dksX2_compare_2 20 rfl rfl)
theorem dX2_compare_68 : decode cX2_compare 68 = .ok (.ireturn, 1) := dk_172 (dk_at dksX2_compare_2 21 rfl rfl)
theorem dX2_compare_69 : decode cX2_compare 69 = .ok (.iinc 2 (-1), 3) := dk_132 2 255 (dk_at dksX2_compare_3 0 rfl rfl)
theorem dX2_compare_72 : decode cX2_compare 72 = .ok (.goto (-69), 3) := dk_167 255 187 (dk_at dksX2_compare_3 3 rfl rfl)
theorem dX2_compare_75 : decode cX2_compare 75 = .ok (.iconst 0, 1) := dk_3 (dk_at dksX2_compare_3 6 rfl rfl)
theorem dX2_compare_76 : decode cX2_compare 76 = .ok (.ireturn, 1) := dk_172 (dk_at dksX2_compare_3 7 rfl rfl)
abbrev cX2_set : ByteArray := prog_8_method_3_code
def yX2_set : MethodName := ⟨RX2, "set", "(LRoundingAuditor$Exact;)V"⟩
def dkwX2_set_0 : List UInt8 := [43, 180, 0, 9, 3, 42, 180, 0, 9, 3, 16, 40, 184, 0, 13, 177]
abbrev dktX2_set_0 : List UInt8 := dkwX2_set_0 ++ []
theorem dksX2_set_0 : cX2_set.data.toList.drop 0 = dktX2_set_0 := by decide +kernel
theorem dX2_set_0 : decode cX2_set 0 = .ok (.aload_n 1, 1) := dk_43 (dk_at dksX2_set_0 0 rfl rfl)
theorem dX2_set_1 : decode cX2_set 1 = .ok (.getfield 9, 3) := dk_180 0 9 (dk_at dksX2_set_0 1 rfl rfl)
theorem dX2_set_4 : decode cX2_set 4 = .ok (.iconst 0, 1) := dk_3 (dk_at dksX2_set_0 4 rfl rfl)
theorem dX2_set_5 : decode cX2_set 5 = .ok (.aload_n 0, 1) := dk_42 (dk_at dksX2_set_0 5 rfl rfl)
theorem dX2_set_6 : decode cX2_set 6 = .ok (.getfield 9, 3) := dk_180 0 9 (dk_at dksX2_set_0 6 rfl rfl)
theorem dX2_set_9 : decode cX2_set 9 = .ok (.iconst 0, 1) := dk_3 (dk_at dksX2_set_0 9 rfl rfl)
theorem dX2_set_10 : decode cX2_set 10 = .ok (.bipush 40, 2) := dk_16 40 (dk_at dksX2_set_0 10 rfl rfl)
theorem dX2_set_12 : decode cX2_set 12 = .ok (.invokestatic 13, 3) := dk_184 0 13 (dk_at dksX2_set_0 12 rfl rfl)
theorem dX2_set_15 : decode cX2_set 15 = .ok (.return_, 1) := dk_177 (dk_at dksX2_set_0 15 rfl rfl)
abbrev cX2_times : ByteArray := prog_8_method_10_code
def yX2_times : MethodName := ⟨RX2, "times", "(J)V"⟩
def dkwX2_times_2 : List UInt8 := [167, 255, 215, 177]
abbrev dktX2_times_2 : List UInt8 := dkwX2_times_2 ++ []
def dkwX2_times_1 : List UInt8 := [127, 31, 105, 97, 66, 42, 180, 0, 9, 21, 5, 33, 136, 79, 33, 16, 32, 125, 66, 132, 5, 1]
abbrev dktX2_times_1 : List UInt8 := dkwX2_times_1 ++ dktX2_times_2
def dkwX2_times_0 : List UInt8 := [9, 66, 3, 54, 5, 21, 5, 16, 40, 162, 0, 40, 33, 42, 180, 0, 9, 21, 5, 46, 133, 20, 0, 19]
abbrev dktX2_times_0 : List UInt8 := dkwX2_times_0 ++ dktX2_times_1
theorem dksX2_times_0 : cX2_times.data.toList.drop 0 = dktX2_times_0 := by decide +kernel
theorem dksX2_times_1 : cX2_times.data.toList.drop 24 = dktX2_times_1 := dk_seg dksX2_times_0 24 rfl rfl
theorem dksX2_times_2 : cX2_times.data.toList.drop 46 = dktX2_times_2 := dk_seg dksX2_times_1 22 rfl rfl
theorem dX2_times_0 : decode cX2_times 0 = .ok (.lconst 0, 1) := dk_9 (dk_at dksX2_times_0 0 rfl rfl)
theorem dX2_times_1 : decode cX2_times 1 = .ok (.lstore_n 3, 1) := dk_66 (dk_at dksX2_times_0 1 rfl rfl)
theorem dX2_times_2 : decode cX2_times 2 = .ok (.iconst 0, 1) := dk_3 (dk_at dksX2_times_0 2 rfl rfl)
theorem dX2_times_3 : decode cX2_times 3 = .ok (.istore 5, 2) := dk_54 5 (dk_at dksX2_times_0 3 rfl rfl)
theorem dX2_times_5 : decode cX2_times 5 = .ok (.iload 5, 2) := dk_21 5 (dk_at dksX2_times_0 5 rfl rfl)
theorem dX2_times_7 : decode cX2_times 7 = .ok (.bipush 40, 2) := dk_16 40 (dk_at dksX2_times_0 7 rfl rfl)
theorem dX2_times_9 : decode cX2_times 9 = .ok (.if_icmp .ge 40, 3) := dk_162 0 40 (dk_at dksX2_times_0 9 rfl rfl)
theorem dX2_times_12 : decode cX2_times 12 = .ok (.lload_n 3, 1) := dk_33 (dk_at dksX2_times_0 12 rfl rfl)
theorem dX2_times_13 : decode cX2_times 13 = .ok (.aload_n 0, 1) := dk_42 (dk_at dksX2_times_0 13 rfl rfl)
theorem dX2_times_14 : decode cX2_times 14 = .ok (.getfield 9, 3) := dk_180 0 9 (dk_at dksX2_times_0 14 rfl rfl)
theorem dX2_times_17 : decode cX2_times 17 = .ok (.iload 5, 2) := dk_21 5 (dk_at dksX2_times_0 17 rfl rfl)
theorem dX2_times_19 : decode cX2_times 19 = .ok (.iaload, 1) := dk_46 (dk_at dksX2_times_0 19 rfl rfl)
theorem dX2_times_20 : decode cX2_times 20 = .ok (.i2l, 1) := dk_133 (dk_at dksX2_times_0 20 rfl rfl)
theorem dX2_times_21 : decode cX2_times 21 = .ok (.ldc2_w 19, 3) := dk_20 0 19 (dk_at dksX2_times_0 21 rfl rfl)
theorem dX2_times_24 : decode cX2_times 24 = .ok (.land, 1) := dk_127 (dk_at dksX2_times_1 0 rfl rfl)
theorem dX2_times_25 : decode cX2_times 25 = .ok (.lload_n 1, 1) := dk_31 (dk_at dksX2_times_1 1 rfl rfl)
theorem dX2_times_26 : decode cX2_times 26 = .ok (.lmul, 1) := dk_105 (dk_at dksX2_times_1 2 rfl rfl)
theorem dX2_times_27 : decode cX2_times 27 = .ok (.ladd, 1) := dk_97 (dk_at dksX2_times_1 3 rfl rfl)
theorem dX2_times_28 : decode cX2_times 28 = .ok (.lstore_n 3, 1) := dk_66 (dk_at dksX2_times_1 4 rfl rfl)
theorem dX2_times_29 : decode cX2_times 29 = .ok (.aload_n 0, 1) := dk_42 (dk_at dksX2_times_1 5 rfl rfl)
theorem dX2_times_30 : decode cX2_times 30 = .ok (.getfield 9, 3) := dk_180 0 9 (dk_at dksX2_times_1 6 rfl rfl)
theorem dX2_times_33 : decode cX2_times 33 = .ok (.iload 5, 2) := dk_21 5 (dk_at dksX2_times_1 9 rfl rfl)
theorem dX2_times_35 : decode cX2_times 35 = .ok (.lload_n 3, 1) := dk_33 (dk_at dksX2_times_1 11 rfl rfl)
theorem dX2_times_36 : decode cX2_times 36 = .ok (.l2i, 1) := dk_136 (dk_at dksX2_times_1 12 rfl rfl)
theorem dX2_times_37 : decode cX2_times 37 = .ok (.iastore, 1) := dk_79 (dk_at dksX2_times_1 13 rfl rfl)
theorem dX2_times_38 : decode cX2_times 38 = .ok (.lload_n 3, 1) := dk_33 (dk_at dksX2_times_1 14 rfl rfl)
theorem dX2_times_39 : decode cX2_times 39 = .ok (.bipush 32, 2) := dk_16 32 (dk_at dksX2_times_1 15 rfl rfl)
theorem dX2_times_41 : decode cX2_times 41 = .ok (.lushr, 1) := dk_125 (dk_at dksX2_times_1 17 rfl rfl)
theorem dX2_times_42 : decode cX2_times 42 = .ok (.lstore_n 3, 1) := dk_66 (dk_at dksX2_times_1 18 rfl rfl)
theorem dX2_times_43 : decode cX2_times 43 = .ok (.iinc 5 1, 3) := dk_132 5 1 (dk_at dksX2_times_1 19 rfl rfl)
theorem dX2_times_46 : decode cX2_times 46 = .ok (.goto (-41), 3) := dk_167 255 215 (dk_at dksX2_times_2 0 rfl rfl)
theorem dX2_times_49 : decode cX2_times 49 = .ok (.return_, 1) := dk_177 (dk_at dksX2_times_2 3 rfl rfl)
abbrev cX2_toFloat : ByteArray := prog_8_method_18_code
def yX2_toFloat : MethodName := ⟨RX2, "toFloat", "()F"⟩
def dkwX2_toFloat_1 : List UInt8 := [182, 0, 76, 69, 27, 153, 0, 7, 42, 182, 0, 69, 27, 153, 0, 8, 36, 118, 167, 0, 4, 36, 174]
abbrev dktX2_toFloat_1 : List UInt8 := dkwX2_toFloat_1 ++ []
def dkwX2_toFloat_0 : List UInt8 := [42, 182, 0, 66, 156, 0, 7, 4, 167, 0, 4, 3, 60, 27, 153, 0, 7, 42, 182, 0, 69, 42]
abbrev dktX2_toFloat_0 : List UInt8 := dkwX2_toFloat_0 ++ dktX2_toFloat_1
theorem dksX2_toFloat_0 : cX2_toFloat.data.toList.drop 0 = dktX2_toFloat_0 := by decide +kernel
theorem dksX2_toFloat_1 : cX2_toFloat.data.toList.drop 22 = dktX2_toFloat_1 := dk_seg dksX2_toFloat_0 22 rfl rfl
theorem dX2_toFloat_0 : decode cX2_toFloat 0 = .ok (.aload_n 0, 1) := dk_42 (dk_at dksX2_toFloat_0 0 rfl rfl)
theorem dX2_toFloat_1 : decode cX2_toFloat 1 = .ok (.invokevirtual 66, 3) := dk_182 0 66 (dk_at dksX2_toFloat_0 1 rfl rfl)
theorem dX2_toFloat_4 : decode cX2_toFloat 4 = .ok (.ifCond .ge 7, 3) := dk_156 0 7 (dk_at dksX2_toFloat_0 4 rfl rfl)
theorem dX2_toFloat_7 : decode cX2_toFloat 7 = .ok (.iconst 1, 1) := dk_4 (dk_at dksX2_toFloat_0 7 rfl rfl)
theorem dX2_toFloat_8 : decode cX2_toFloat 8 = .ok (.goto 4, 3) := dk_167 0 4 (dk_at dksX2_toFloat_0 8 rfl rfl)
theorem dX2_toFloat_11 : decode cX2_toFloat 11 = .ok (.iconst 0, 1) := dk_3 (dk_at dksX2_toFloat_0 11 rfl rfl)
theorem dX2_toFloat_12 : decode cX2_toFloat 12 = .ok (.istore_n 1, 1) := dk_60 (dk_at dksX2_toFloat_0 12 rfl rfl)
theorem dX2_toFloat_13 : decode cX2_toFloat 13 = .ok (.iload_n 1, 1) := dk_27 (dk_at dksX2_toFloat_0 13 rfl rfl)
theorem dX2_toFloat_14 : decode cX2_toFloat 14 = .ok (.ifCond .eq 7, 3) := dk_153 0 7 (dk_at dksX2_toFloat_0 14 rfl rfl)
theorem dX2_toFloat_17 : decode cX2_toFloat 17 = .ok (.aload_n 0, 1) := dk_42 (dk_at dksX2_toFloat_0 17 rfl rfl)
theorem dX2_toFloat_18 : decode cX2_toFloat 18 = .ok (.invokevirtual 69, 3) := dk_182 0 69 (dk_at dksX2_toFloat_0 18 rfl rfl)
theorem dX2_toFloat_21 : decode cX2_toFloat 21 = .ok (.aload_n 0, 1) := dk_42 (dk_at dksX2_toFloat_0 21 rfl rfl)
theorem dX2_toFloat_22 : decode cX2_toFloat 22 = .ok (.invokevirtual 76, 3) := dk_182 0 76 (dk_at dksX2_toFloat_1 0 rfl rfl)
theorem dX2_toFloat_25 : decode cX2_toFloat 25 = .ok (.fstore_n 2, 1) := dk_69 (dk_at dksX2_toFloat_1 3 rfl rfl)
theorem dX2_toFloat_26 : decode cX2_toFloat 26 = .ok (.iload_n 1, 1) := dk_27 (dk_at dksX2_toFloat_1 4 rfl rfl)
theorem dX2_toFloat_27 : decode cX2_toFloat 27 = .ok (.ifCond .eq 7, 3) := dk_153 0 7 (dk_at dksX2_toFloat_1 5 rfl rfl)
theorem dX2_toFloat_30 : decode cX2_toFloat 30 = .ok (.aload_n 0, 1) := dk_42 (dk_at dksX2_toFloat_1 8 rfl rfl)
theorem dX2_toFloat_31 : decode cX2_toFloat 31 = .ok (.invokevirtual 69, 3) := dk_182 0 69 (dk_at dksX2_toFloat_1 9 rfl rfl)
theorem dX2_toFloat_34 : decode cX2_toFloat 34 = .ok (.iload_n 1, 1) := dk_27 (dk_at dksX2_toFloat_1 12 rfl rfl)
theorem dX2_toFloat_35 : decode cX2_toFloat 35 = .ok (.ifCond .eq 8, 3) := dk_153 0 8 (dk_at dksX2_toFloat_1 13 rfl rfl)
theorem dX2_toFloat_38 : decode cX2_toFloat 38 = .ok (.fload_n 2, 1) := dk_36 (dk_at dksX2_toFloat_1 16 rfl rfl)
theorem dX2_toFloat_39 : decode cX2_toFloat 39 = .ok (.fneg, 1) := dk_118 (dk_at dksX2_toFloat_1 17 rfl rfl)
theorem dX2_toFloat_40 : decode cX2_toFloat 40 = .ok (.goto 4, 3) := dk_167 0 4 (dk_at dksX2_toFloat_1 18 rfl rfl)
theorem dX2_toFloat_43 : decode cX2_toFloat 43 = .ok (.fload_n 2, 1) := dk_36 (dk_at dksX2_toFloat_1 21 rfl rfl)
theorem dX2_toFloat_44 : decode cX2_toFloat 44 = .ok (.freturn, 1) := dk_174 (dk_at dksX2_toFloat_1 22 rfl rfl)
abbrev cX2_floatOfSize : ByteArray := prog_8_method_16_code
def yX2_floatOfSize : MethodName := ⟨RX2, "floatOfSize", "()F"⟩
def dkwX2_floatOfSize_1 : List UInt8 := [17, 3, 157, 100, 16, 23, 120, 29, 96, 184, 0, 60, 174]
abbrev dktX2_floatOfSize_1 : List UInt8 := dkwX2_floatOfSize_1 ++ []
def dkwX2_floatOfSize_0 : List UInt8 := [42, 182, 0, 42, 60, 17, 3, 157, 27, 16, 24, 100, 184, 0, 46, 61, 42, 28, 182, 0, 52, 136, 62, 28]
abbrev dktX2_floatOfSize_0 : List UInt8 := dkwX2_floatOfSize_0 ++ dktX2_floatOfSize_1
theorem dksX2_floatOfSize_0 : cX2_floatOfSize.data.toList.drop 0 = dktX2_floatOfSize_0 := by decide +kernel
theorem dksX2_floatOfSize_1 : cX2_floatOfSize.data.toList.drop 24 = dktX2_floatOfSize_1 := dk_seg dksX2_floatOfSize_0 24 rfl rfl
theorem dX2_floatOfSize_0 : decode cX2_floatOfSize 0 = .ok (.aload_n 0, 1) := dk_42 (dk_at dksX2_floatOfSize_0 0 rfl rfl)
theorem dX2_floatOfSize_1 : decode cX2_floatOfSize 1 = .ok (.invokevirtual 42, 3) := dk_182 0 42 (dk_at dksX2_floatOfSize_0 1 rfl rfl)
theorem dX2_floatOfSize_4 : decode cX2_floatOfSize 4 = .ok (.istore_n 1, 1) := dk_60 (dk_at dksX2_floatOfSize_0 4 rfl rfl)
theorem dX2_floatOfSize_5 : decode cX2_floatOfSize 5 = .ok (.sipush 925, 3) := dk_17 3 157 (dk_at dksX2_floatOfSize_0 5 rfl rfl)
theorem dX2_floatOfSize_8 : decode cX2_floatOfSize 8 = .ok (.iload_n 1, 1) := dk_27 (dk_at dksX2_floatOfSize_0 8 rfl rfl)
theorem dX2_floatOfSize_9 : decode cX2_floatOfSize 9 = .ok (.bipush 24, 2) := dk_16 24 (dk_at dksX2_floatOfSize_0 9 rfl rfl)
theorem dX2_floatOfSize_11 : decode cX2_floatOfSize 11 = .ok (.isub, 1) := dk_100 (dk_at dksX2_floatOfSize_0 11 rfl rfl)
theorem dX2_floatOfSize_12 : decode cX2_floatOfSize 12 = .ok (.invokestatic 46, 3) := dk_184 0 46 (dk_at dksX2_floatOfSize_0 12 rfl rfl)
theorem dX2_floatOfSize_15 : decode cX2_floatOfSize 15 = .ok (.istore_n 2, 1) := dk_61 (dk_at dksX2_floatOfSize_0 15 rfl rfl)
theorem dX2_floatOfSize_16 : decode cX2_floatOfSize 16 = .ok (.aload_n 0, 1) := dk_42 (dk_at dksX2_floatOfSize_0 16 rfl rfl)
theorem dX2_floatOfSize_17 : decode cX2_floatOfSize 17 = .ok (.iload_n 2, 1) := dk_28 (dk_at dksX2_floatOfSize_0 17 rfl rfl)
theorem dX2_floatOfSize_18 : decode cX2_floatOfSize 18 = .ok (.invokevirtual 52, 3) := dk_182 0 52 (dk_at dksX2_floatOfSize_0 18 rfl rfl)
theorem dX2_floatOfSize_21 : decode cX2_floatOfSize 21 = .ok (.l2i, 1) := dk_136 (dk_at dksX2_floatOfSize_0 21 rfl rfl)
theorem dX2_floatOfSize_22 : decode cX2_floatOfSize 22 = .ok (.istore_n 3, 1) := dk_62 (dk_at dksX2_floatOfSize_0 22 rfl rfl)
theorem dX2_floatOfSize_23 : decode cX2_floatOfSize 23 = .ok (.iload_n 2, 1) := dk_28 (dk_at dksX2_floatOfSize_0 23 rfl rfl)
theorem dX2_floatOfSize_24 : decode cX2_floatOfSize 24 = .ok (.sipush 925, 3) := dk_17 3 157 (dk_at dksX2_floatOfSize_1 0 rfl rfl)
theorem dX2_floatOfSize_27 : decode cX2_floatOfSize 27 = .ok (.isub, 1) := dk_100 (dk_at dksX2_floatOfSize_1 3 rfl rfl)
theorem dX2_floatOfSize_28 : decode cX2_floatOfSize 28 = .ok (.bipush 23, 2) := dk_16 23 (dk_at dksX2_floatOfSize_1 4 rfl rfl)
theorem dX2_floatOfSize_30 : decode cX2_floatOfSize 30 = .ok (.ishl, 1) := dk_120 (dk_at dksX2_floatOfSize_1 6 rfl rfl)
theorem dX2_floatOfSize_31 : decode cX2_floatOfSize 31 = .ok (.iload_n 3, 1) := dk_29 (dk_at dksX2_floatOfSize_1 7 rfl rfl)
theorem dX2_floatOfSize_32 : decode cX2_floatOfSize 32 = .ok (.iadd, 1) := dk_96 (dk_at dksX2_floatOfSize_1 8 rfl rfl)
theorem dX2_floatOfSize_33 : decode cX2_floatOfSize 33 = .ok (.invokestatic 60, 3) := dk_184 0 60 (dk_at dksX2_floatOfSize_1 9 rfl rfl)
theorem dX2_floatOfSize_36 : decode cX2_floatOfSize 36 = .ok (.freturn, 1) := dk_174 (dk_at dksX2_floatOfSize_1 12 rfl rfl)
abbrev cX2_word : ByteArray := prog_8_method_4_code
def yX2_word : MethodName := ⟨RX2, "word", "(I)I"⟩
def dkwX2_word_0 : List UInt8 := [42, 180, 0, 9, 27, 46, 172]
abbrev dktX2_word_0 : List UInt8 := dkwX2_word_0 ++ []
theorem dksX2_word_0 : cX2_word.data.toList.drop 0 = dktX2_word_0 := by decide +kernel
theorem dX2_word_0 : decode cX2_word 0 = .ok (.aload_n 0, 1) := dk_42 (dk_at dksX2_word_0 0 rfl rfl)
theorem dX2_word_1 : decode cX2_word 1 = .ok (.getfield 9, 3) := dk_180 0 9 (dk_at dksX2_word_0 1 rfl rfl)
theorem dX2_word_4 : decode cX2_word 4 = .ok (.iload_n 1, 1) := dk_27 (dk_at dksX2_word_0 4 rfl rfl)
theorem dX2_word_5 : decode cX2_word 5 = .ok (.iaload, 1) := dk_46 (dk_at dksX2_word_0 5 rfl rfl)
theorem dX2_word_6 : decode cX2_word 6 = .ok (.ireturn, 1) := dk_172 (dk_at dksX2_word_0 6 rfl rfl)
abbrev cX2_add_2 : ByteArray := prog_8_method_7_code
def yX2_add_2 : MethodName := ⟨RX2, "add", "(LRoundingAuditor$Exact;)V"⟩
def dkwX2_add_2_2 : List UInt8 := [79, 32, 16, 32, 125, 65, 132, 4, 1, 167, 255, 204, 177]
abbrev dktX2_add_2_2 : List UInt8 := dkwX2_add_2_2 ++ []
def dkwX2_add_2_1 : List UInt8 := [127, 43, 180, 0, 9, 21, 4, 46, 133, 20, 0, 19, 127, 97, 97, 65, 42, 180, 0, 9, 21, 4, 32, 136]
abbrev dktX2_add_2_1 : List UInt8 := dkwX2_add_2_1 ++ dktX2_add_2_2
def dkwX2_add_2_0 : List UInt8 := [9, 65, 3, 54, 4, 21, 4, 16, 40, 162, 0, 51, 32, 42, 180, 0, 9, 21, 4, 46, 133, 20, 0, 19]
abbrev dktX2_add_2_0 : List UInt8 := dkwX2_add_2_0 ++ dktX2_add_2_1
theorem dksX2_add_2_0 : cX2_add_2.data.toList.drop 0 = dktX2_add_2_0 := by decide +kernel
theorem dksX2_add_2_1 : cX2_add_2.data.toList.drop 24 = dktX2_add_2_1 := dk_seg dksX2_add_2_0 24 rfl rfl
theorem dksX2_add_2_2 : cX2_add_2.data.toList.drop 48 = dktX2_add_2_2 := dk_seg dksX2_add_2_1 24 rfl rfl
theorem dX2_add_2_0 : decode cX2_add_2 0 = .ok (.lconst 0, 1) := dk_9 (dk_at dksX2_add_2_0 0 rfl rfl)
theorem dX2_add_2_1 : decode cX2_add_2 1 = .ok (.lstore_n 2, 1) := dk_65 (dk_at dksX2_add_2_0 1 rfl rfl)
theorem dX2_add_2_2 : decode cX2_add_2 2 = .ok (.iconst 0, 1) := dk_3 (dk_at dksX2_add_2_0 2 rfl rfl)
theorem dX2_add_2_3 : decode cX2_add_2 3 = .ok (.istore 4, 2) := dk_54 4 (dk_at dksX2_add_2_0 3 rfl rfl)
theorem dX2_add_2_5 : decode cX2_add_2 5 = .ok (.iload 4, 2) := dk_21 4 (dk_at dksX2_add_2_0 5 rfl rfl)
theorem dX2_add_2_7 : decode cX2_add_2 7 = .ok (.bipush 40, 2) := dk_16 40 (dk_at dksX2_add_2_0 7 rfl rfl)
theorem dX2_add_2_9 : decode cX2_add_2 9 = .ok (.if_icmp .ge 51, 3) := dk_162 0 51 (dk_at dksX2_add_2_0 9 rfl rfl)
theorem dX2_add_2_12 : decode cX2_add_2 12 = .ok (.lload_n 2, 1) := dk_32 (dk_at dksX2_add_2_0 12 rfl rfl)
theorem dX2_add_2_13 : decode cX2_add_2 13 = .ok (.aload_n 0, 1) := dk_42 (dk_at dksX2_add_2_0 13 rfl rfl)
theorem dX2_add_2_14 : decode cX2_add_2 14 = .ok (.getfield 9, 3) := dk_180 0 9 (dk_at dksX2_add_2_0 14 rfl rfl)
theorem dX2_add_2_17 : decode cX2_add_2 17 = .ok (.iload 4, 2) := dk_21 4 (dk_at dksX2_add_2_0 17 rfl rfl)
theorem dX2_add_2_19 : decode cX2_add_2 19 = .ok (.iaload, 1) := dk_46 (dk_at dksX2_add_2_0 19 rfl rfl)
theorem dX2_add_2_20 : decode cX2_add_2 20 = .ok (.i2l, 1) := dk_133 (dk_at dksX2_add_2_0 20 rfl rfl)
theorem dX2_add_2_21 : decode cX2_add_2 21 = .ok (.ldc2_w 19, 3) := dk_20 0 19 (dk_at dksX2_add_2_0 21 rfl rfl)
theorem dX2_add_2_24 : decode cX2_add_2 24 = .ok (.land, 1) := dk_127 (dk_at dksX2_add_2_1 0 rfl rfl)
theorem dX2_add_2_25 : decode cX2_add_2 25 = .ok (.aload_n 1, 1) := dk_43 (dk_at dksX2_add_2_1 1 rfl rfl)
theorem dX2_add_2_26 : decode cX2_add_2 26 = .ok (.getfield 9, 3) := dk_180 0 9 (dk_at dksX2_add_2_1 2 rfl rfl)
theorem dX2_add_2_29 : decode cX2_add_2 29 = .ok (.iload 4, 2) := dk_21 4 (dk_at dksX2_add_2_1 5 rfl rfl)
theorem dX2_add_2_31 : decode cX2_add_2 31 = .ok (.iaload, 1) := dk_46 (dk_at dksX2_add_2_1 7 rfl rfl)
theorem dX2_add_2_32 : decode cX2_add_2 32 = .ok (.i2l, 1) := dk_133 (dk_at dksX2_add_2_1 8 rfl rfl)
theorem dX2_add_2_33 : decode cX2_add_2 33 = .ok (.ldc2_w 19, 3) := dk_20 0 19 (dk_at dksX2_add_2_1 9 rfl rfl)
theorem dX2_add_2_36 : decode cX2_add_2 36 = .ok (.land, 1) := dk_127 (dk_at dksX2_add_2_1 12 rfl rfl)
theorem dX2_add_2_37 : decode cX2_add_2 37 = .ok (.ladd, 1) := dk_97 (dk_at dksX2_add_2_1 13 rfl rfl)
theorem dX2_add_2_38 : decode cX2_add_2 38 = .ok (.ladd, 1) := dk_97 (dk_at dksX2_add_2_1 14 rfl rfl)
theorem dX2_add_2_39 : decode cX2_add_2 39 = .ok (.lstore_n 2, 1) := dk_65 (dk_at dksX2_add_2_1 15 rfl rfl)
theorem dX2_add_2_40 : decode cX2_add_2 40 = .ok (.aload_n 0, 1) := dk_42 (dk_at dksX2_add_2_1 16 rfl rfl)
theorem dX2_add_2_41 : decode cX2_add_2 41 = .ok (.getfield 9, 3) := dk_180 0 9 (dk_at dksX2_add_2_1 17 rfl rfl)
theorem dX2_add_2_44 : decode cX2_add_2 44 = .ok (.iload 4, 2) := dk_21 4 (dk_at dksX2_add_2_1 20 rfl rfl)
theorem dX2_add_2_46 : decode cX2_add_2 46 = .ok (.lload_n 2, 1) := dk_32 (dk_at dksX2_add_2_1 22 rfl rfl)
theorem dX2_add_2_47 : decode cX2_add_2 47 = .ok (.l2i, 1) := dk_136 (dk_at dksX2_add_2_1 23 rfl rfl)
theorem dX2_add_2_48 : decode cX2_add_2 48 = .ok (.iastore, 1) := dk_79 (dk_at dksX2_add_2_2 0 rfl rfl)
theorem dX2_add_2_49 : decode cX2_add_2 49 = .ok (.lload_n 2, 1) := dk_32 (dk_at dksX2_add_2_2 1 rfl rfl)
theorem dX2_add_2_50 : decode cX2_add_2 50 = .ok (.bipush 32, 2) := dk_16 32 (dk_at dksX2_add_2_2 2 rfl rfl)
theorem dX2_add_2_52 : decode cX2_add_2 52 = .ok (.lushr, 1) := dk_125 (dk_at dksX2_add_2_2 4 rfl rfl)
theorem dX2_add_2_53 : decode cX2_add_2 53 = .ok (.lstore_n 2, 1) := dk_65 (dk_at dksX2_add_2_2 5 rfl rfl)
theorem dX2_add_2_54 : decode cX2_add_2 54 = .ok (.iinc 4 1, 3) := dk_132 4 1 (dk_at dksX2_add_2_2 6 rfl rfl)
theorem dX2_add_2_57 : decode cX2_add_2 57 = .ok (.goto (-52), 3) := dk_167 255 204 (dk_at dksX2_add_2_2 9 rfl rfl)
theorem dX2_add_2_60 : decode cX2_add_2 60 = .ok (.return_, 1) := dk_177 (dk_at dksX2_add_2_2 12 rfl rfl)
theorem q66 : (Jvm.Cond.initialized "RoundingAuditor$Exact") ∈ lw_all := lw_g (lw_at lw_m1 2 rfl) rfl
theorem q123 : (Jvm.Cond.instantiable "RoundingAuditor$Exact" (1 : Nat)) ∈ lw_all := lw_g (lw_at lw_m1 59 rfl) rfl
theorem q125 : (Jvm.Cond.instanceMethod ({ cls := "RoundingAuditor$Exact", name := "<init>", desc := "()V" } : Jvm.MethodName)) ∈ lw_all := lw_g (lw_at lw_m1 61 rfl) rfl
theorem q126 : (Jvm.Cond.code ({ cls := "RoundingAuditor$Exact", name := "<init>", desc := "()V" } : Jvm.MethodName) prog_8_method_1_code (1 : Nat) (Option.none : Option Jvm.ClassFile.FieldType)) ∈ lw_all := lw_g (lw_at lw_m1 62 rfl) rfl
theorem q127 : (Jvm.Cond.methodLink "RoundingAuditor$Exact" (1 : Nat) ({ cls := "java/lang/Object", name := "<init>", desc := "()V" } : Jvm.MethodName)) ∈ lw_all := lw_g (lw_at lw_m1 63 rfl) rfl
theorem q128 : (Jvm.Cond.fieldLink "RoundingAuditor$Exact" (9 : Nat) "RoundingAuditor$Exact" "words" "[I") ∈ lw_all := lw_g (lw_at lw_m1 64 rfl) rfl
theorem q129 : (Jvm.Cond.laysFinal "RoundingAuditor$Exact" "RoundingAuditor$Exact" "words" "[I") ∈ lw_all := lw_g (lw_at lw_m1 65 rfl) rfl
theorem q130 : (Jvm.Cond.soleField "RoundingAuditor$Exact" "words") ∈ lw_all := lw_g (lw_at lw_m1 66 rfl) rfl
theorem q131 : (Jvm.Cond.superclass "RoundingAuditor$Exact" "java/lang/Object") ∈ lw_all := lw_g (lw_at lw_m1 67 rfl) rfl
theorem q266 : (Jvm.Cond.instanceMethod ({ cls := "RoundingAuditor$Exact", name := "clear", desc := "()V" } : Jvm.MethodName)) ∈ lw_all := lw_g (lw_at lw_m1 202 rfl) rfl
theorem q267 : (Jvm.Cond.selects "RoundingAuditor$Exact" ({ cls := "RoundingAuditor$Exact", name := "clear", desc := "()V" } : Jvm.MethodName) ({ cls := "RoundingAuditor$Exact", name := "clear", desc := "()V" } : Jvm.MethodName)) ∈ lw_all := lw_g (lw_at lw_m1 203 rfl) rfl
theorem q268 : (Jvm.Cond.code ({ cls := "RoundingAuditor$Exact", name := "clear", desc := "()V" } : Jvm.MethodName) prog_8_method_2_code (2 : Nat) (Option.none : Option Jvm.ClassFile.FieldType)) ∈ lw_all := lw_g (lw_at lw_m1 204 rfl) rfl
theorem q270 : (Jvm.Cond.instanceMethod ({ cls := "RoundingAuditor$Exact", name := "add", desc := "(DZ)V" } : Jvm.MethodName)) ∈ lw_all := lw_g (lw_at lw_m1 206 rfl) rfl
theorem q271 : (Jvm.Cond.selects "RoundingAuditor$Exact" ({ cls := "RoundingAuditor$Exact", name := "add", desc := "(DZ)V" } : Jvm.MethodName) ({ cls := "RoundingAuditor$Exact", name := "add", desc := "(DZ)V" } : Jvm.MethodName)) ∈ lw_all := lw_g (lw_at lw_m1 207 rfl) rfl
theorem q272 : (Jvm.Cond.code ({ cls := "RoundingAuditor$Exact", name := "add", desc := "(DZ)V" } : Jvm.MethodName) prog_8_method_8_code (10 : Nat) (Option.none : Option Jvm.ClassFile.FieldType)) ∈ lw_all := lw_g (lw_at lw_m1 208 rfl) rfl
theorem q273 : (Jvm.Cond.methodLink "RoundingAuditor$Exact" (21 : Nat) ({ cls := "java/lang/Double", name := "doubleToLongBits", desc := "(D)J" } : Jvm.MethodName)) ∈ lw_all := lw_g (lw_at lw_m1 209 rfl) rfl
theorem q274 : (Jvm.Cond.constantLong "RoundingAuditor$Exact" (27 : Nat) (4503599627370495 : Int64)) ∈ lw_all := lw_g (lw_at lw_m1 210 rfl) rfl
theorem q275 : (Jvm.Cond.constantLong "RoundingAuditor$Exact" (29 : Nat) (4503599627370496 : Int64)) ∈ lw_all := lw_g (lw_at lw_m1 211 rfl) rfl
theorem q276 : (Jvm.Cond.methodLink "RoundingAuditor$Exact" (31 : Nat) ({ cls := "RoundingAuditor$Exact", name := "addShifted", desc := "(JIZ)V" } : Jvm.MethodName)) ∈ lw_all := lw_g (lw_at lw_m1 212 rfl) rfl
theorem q277 : (Jvm.Cond.privateMethod ({ cls := "RoundingAuditor$Exact", name := "addShifted", desc := "(JIZ)V" } : Jvm.MethodName)) ∈ lw_tbl := lw_at lw_m1 213 rfl
theorem q278 : (Jvm.Cond.instanceMethod ({ cls := "RoundingAuditor$Exact", name := "addShifted", desc := "(JIZ)V" } : Jvm.MethodName)) ∈ lw_all := lw_g (lw_at lw_m1 214 rfl) rfl
theorem q279 : (Jvm.Cond.code ({ cls := "RoundingAuditor$Exact", name := "addShifted", desc := "(JIZ)V" } : Jvm.MethodName) prog_8_method_9_code (22 : Nat) (Option.none : Option Jvm.ClassFile.FieldType)) ∈ lw_all := lw_g (lw_at lw_m1 215 rfl) rfl
theorem q280 : (Jvm.Cond.constantLong "RoundingAuditor$Exact" (19 : Nat) (4294967295 : Int64)) ∈ lw_all := lw_g (lw_at lw_m1 216 rfl) rfl
theorem q282 : (Jvm.Cond.instanceMethod ({ cls := "RoundingAuditor$Exact", name := "toDouble", desc := "()D" } : Jvm.MethodName)) ∈ lw_all := lw_g (lw_at lw_m1 218 rfl) rfl
theorem q283 : (Jvm.Cond.selects "RoundingAuditor$Exact" ({ cls := "RoundingAuditor$Exact", name := "toDouble", desc := "()D" } : Jvm.MethodName) ({ cls := "RoundingAuditor$Exact", name := "toDouble", desc := "()D" } : Jvm.MethodName)) ∈ lw_all := lw_g (lw_at lw_m1 219 rfl) rfl
theorem q284 : (Jvm.Cond.code ({ cls := "RoundingAuditor$Exact", name := "toDouble", desc := "()D" } : Jvm.MethodName) prog_8_method_17_code (4 : Nat) (Option.some Jvm.ClassFile.FieldType.double)) ∈ lw_all := lw_g (lw_at lw_m1 220 rfl) rfl
theorem q285 : (Jvm.Cond.methodLink "RoundingAuditor$Exact" (66 : Nat) ({ cls := "RoundingAuditor$Exact", name := "sign", desc := "()I" } : Jvm.MethodName)) ∈ lw_all := lw_g (lw_at lw_m1 221 rfl) rfl
theorem q286 : (Jvm.Cond.instanceMethod ({ cls := "RoundingAuditor$Exact", name := "sign", desc := "()I" } : Jvm.MethodName)) ∈ lw_all := lw_g (lw_at lw_m1 222 rfl) rfl
theorem q287 : (Jvm.Cond.selects "RoundingAuditor$Exact" ({ cls := "RoundingAuditor$Exact", name := "sign", desc := "()I" } : Jvm.MethodName) ({ cls := "RoundingAuditor$Exact", name := "sign", desc := "()I" } : Jvm.MethodName)) ∈ lw_all := lw_g (lw_at lw_m1 223 rfl) rfl
theorem q288 : (Jvm.Cond.code ({ cls := "RoundingAuditor$Exact", name := "sign", desc := "()I" } : Jvm.MethodName) prog_8_method_5_code (6 : Nat) (Option.some Jvm.ClassFile.FieldType.int)) ∈ lw_all := lw_g (lw_at lw_m1 224 rfl) rfl
theorem q289 : (Jvm.Cond.methodLink "RoundingAuditor$Exact" (69 : Nat) ({ cls := "RoundingAuditor$Exact", name := "negate", desc := "()V" } : Jvm.MethodName)) ∈ lw_all := lw_g (lw_at lw_m1 225 rfl) rfl
theorem q290 : (Jvm.Cond.instanceMethod ({ cls := "RoundingAuditor$Exact", name := "negate", desc := "()V" } : Jvm.MethodName)) ∈ lw_all := lw_g (lw_at lw_m1 226 rfl) rfl
theorem q291 : (Jvm.Cond.selects "RoundingAuditor$Exact" ({ cls := "RoundingAuditor$Exact", name := "negate", desc := "()V" } : Jvm.MethodName) ({ cls := "RoundingAuditor$Exact", name := "negate", desc := "()V" } : Jvm.MethodName)) ∈ lw_all := lw_g (lw_at lw_m1 227 rfl) rfl
theorem q292 : (Jvm.Cond.code ({ cls := "RoundingAuditor$Exact", name := "negate", desc := "()V" } : Jvm.MethodName) prog_8_method_6_code (4 : Nat) (Option.none : Option Jvm.ClassFile.FieldType)) ∈ lw_all := lw_g (lw_at lw_m1 228 rfl) rfl
theorem q293 : (Jvm.Cond.methodLink "RoundingAuditor$Exact" (72 : Nat) ({ cls := "RoundingAuditor$Exact", name := "doubleOfSize", desc := "()D" } : Jvm.MethodName)) ∈ lw_all := lw_g (lw_at lw_m1 229 rfl) rfl
theorem q294 : (Jvm.Cond.privateMethod ({ cls := "RoundingAuditor$Exact", name := "doubleOfSize", desc := "()D" } : Jvm.MethodName)) ∈ lw_tbl := lw_at lw_m1 230 rfl
theorem q295 : (Jvm.Cond.instanceMethod ({ cls := "RoundingAuditor$Exact", name := "doubleOfSize", desc := "()D" } : Jvm.MethodName)) ∈ lw_all := lw_g (lw_at lw_m1 231 rfl) rfl
theorem q296 : (Jvm.Cond.code ({ cls := "RoundingAuditor$Exact", name := "doubleOfSize", desc := "()D" } : Jvm.MethodName) prog_8_method_15_code (5 : Nat) (Option.some Jvm.ClassFile.FieldType.double)) ∈ lw_all := lw_g (lw_at lw_m1 232 rfl) rfl
theorem q297 : (Jvm.Cond.methodLink "RoundingAuditor$Exact" (42 : Nat) ({ cls := "RoundingAuditor$Exact", name := "length", desc := "()I" } : Jvm.MethodName)) ∈ lw_all := lw_g (lw_at lw_m1 233 rfl) rfl
theorem q298 : (Jvm.Cond.instanceMethod ({ cls := "RoundingAuditor$Exact", name := "length", desc := "()I" } : Jvm.MethodName)) ∈ lw_all := lw_g (lw_at lw_m1 234 rfl) rfl
theorem q299 : (Jvm.Cond.selects "RoundingAuditor$Exact" ({ cls := "RoundingAuditor$Exact", name := "length", desc := "()I" } : Jvm.MethodName) ({ cls := "RoundingAuditor$Exact", name := "length", desc := "()I" } : Jvm.MethodName)) ∈ lw_all := lw_g (lw_at lw_m1 235 rfl) rfl
theorem q300 : (Jvm.Cond.code ({ cls := "RoundingAuditor$Exact", name := "length", desc := "()I" } : Jvm.MethodName) prog_8_method_13_code (2 : Nat) (Option.some Jvm.ClassFile.FieldType.int)) ∈ lw_all := lw_g (lw_at lw_m1 236 rfl) rfl
theorem q301 : (Jvm.Cond.methodLink "RoundingAuditor$Exact" (38 : Nat) ({ cls := "RoundingAuditor$Exact", name := "isSet", desc := "(I)Z" } : Jvm.MethodName)) ∈ lw_all := lw_g (lw_at lw_m1 237 rfl) rfl
theorem q302 : (Jvm.Cond.privateMethod ({ cls := "RoundingAuditor$Exact", name := "isSet", desc := "(I)Z" } : Jvm.MethodName)) ∈ lw_tbl := lw_at lw_m1 238 rfl
theorem q303 : (Jvm.Cond.instanceMethod ({ cls := "RoundingAuditor$Exact", name := "isSet", desc := "(I)Z" } : Jvm.MethodName)) ∈ lw_all := lw_g (lw_at lw_m1 239 rfl) rfl
theorem q304 : (Jvm.Cond.code ({ cls := "RoundingAuditor$Exact", name := "isSet", desc := "(I)Z" } : Jvm.MethodName) prog_8_method_12_code (2 : Nat) (Option.some Jvm.ClassFile.FieldType.boolean)) ∈ lw_all := lw_g (lw_at lw_m2 0 rfl) rfl
theorem q305 : (Jvm.Cond.methodLink "RoundingAuditor$Exact" (46 : Nat) ({ cls := "java/lang/Math", name := "max", desc := "(II)I" } : Jvm.MethodName)) ∈ lw_all := lw_g (lw_at lw_m2 1 rfl) rfl
theorem q308 : (Jvm.Cond.methodLink "RoundingAuditor$Exact" (52 : Nat) ({ cls := "RoundingAuditor$Exact", name := "rounded", desc := "(I)J" } : Jvm.MethodName)) ∈ lw_all := lw_g (lw_at lw_m2 4 rfl) rfl
theorem q309 : (Jvm.Cond.instanceMethod ({ cls := "RoundingAuditor$Exact", name := "rounded", desc := "(I)J" } : Jvm.MethodName)) ∈ lw_all := lw_g (lw_at lw_m2 5 rfl) rfl
theorem q310 : (Jvm.Cond.selects "RoundingAuditor$Exact" ({ cls := "RoundingAuditor$Exact", name := "rounded", desc := "(I)J" } : Jvm.MethodName) ({ cls := "RoundingAuditor$Exact", name := "rounded", desc := "(I)J" } : Jvm.MethodName)) ∈ lw_all := lw_g (lw_at lw_m2 6 rfl) rfl
theorem q311 : (Jvm.Cond.code ({ cls := "RoundingAuditor$Exact", name := "rounded", desc := "(I)J" } : Jvm.MethodName) prog_8_method_14_code (7 : Nat) (Option.some Jvm.ClassFile.FieldType.long)) ∈ lw_all := lw_g (lw_at lw_m2 7 rfl) rfl
theorem q312 : (Jvm.Cond.methodLink "RoundingAuditor$Exact" (56 : Nat) ({ cls := "java/lang/Double", name := "longBitsToDouble", desc := "(J)D" } : Jvm.MethodName)) ∈ lw_all := lw_g (lw_at lw_m2 8 rfl) rfl
theorem q339 : (Jvm.Cond.instanceMethod ({ cls := "RoundingAuditor$Exact", name := "compare", desc := "(LRoundingAuditor$Exact;)I" } : Jvm.MethodName)) ∈ lw_all := lw_g (lw_at lw_m2 35 rfl) rfl
theorem q340 : (Jvm.Cond.selects "RoundingAuditor$Exact" ({ cls := "RoundingAuditor$Exact", name := "compare", desc := "(LRoundingAuditor$Exact;)I" } : Jvm.MethodName) ({ cls := "RoundingAuditor$Exact", name := "compare", desc := "(LRoundingAuditor$Exact;)I" } : Jvm.MethodName)) ∈ lw_all := lw_g (lw_at lw_m2 36 rfl) rfl
theorem q341 : (Jvm.Cond.code ({ cls := "RoundingAuditor$Exact", name := "compare", desc := "(LRoundingAuditor$Exact;)I" } : Jvm.MethodName) prog_8_method_11_code (3 : Nat) (Option.some Jvm.ClassFile.FieldType.int)) ∈ lw_all := lw_g (lw_at lw_m2 37 rfl) rfl
theorem q342 : (Jvm.Cond.constant "RoundingAuditor$Exact" (37 : Nat) (-2147483648 : Int32)) ∈ lw_all := lw_g (lw_at lw_m2 38 rfl) rfl
theorem q344 : (Jvm.Cond.instanceMethod ({ cls := "RoundingAuditor$Exact", name := "set", desc := "(LRoundingAuditor$Exact;)V" } : Jvm.MethodName)) ∈ lw_all := lw_g (lw_at lw_m2 40 rfl) rfl
theorem q345 : (Jvm.Cond.selects "RoundingAuditor$Exact" ({ cls := "RoundingAuditor$Exact", name := "set", desc := "(LRoundingAuditor$Exact;)V" } : Jvm.MethodName) ({ cls := "RoundingAuditor$Exact", name := "set", desc := "(LRoundingAuditor$Exact;)V" } : Jvm.MethodName)) ∈ lw_all := lw_g (lw_at lw_m2 41 rfl) rfl
theorem q346 : (Jvm.Cond.code ({ cls := "RoundingAuditor$Exact", name := "set", desc := "(LRoundingAuditor$Exact;)V" } : Jvm.MethodName) prog_8_method_3_code (2 : Nat) (Option.none : Option Jvm.ClassFile.FieldType)) ∈ lw_all := lw_g (lw_at lw_m2 42 rfl) rfl
theorem q347 : (Jvm.Cond.methodLink "RoundingAuditor$Exact" (13 : Nat) ({ cls := "java/lang/System", name := "arraycopy", desc := "(Ljava/lang/Object;ILjava/lang/Object;II)V" } : Jvm.MethodName)) ∈ lw_all := lw_g (lw_at lw_m2 43 rfl) rfl
theorem q359 : (Jvm.Cond.instanceMethod ({ cls := "RoundingAuditor$Exact", name := "times", desc := "(J)V" } : Jvm.MethodName)) ∈ lw_all := lw_g (lw_at lw_m2 55 rfl) rfl
theorem q360 : (Jvm.Cond.selects "RoundingAuditor$Exact" ({ cls := "RoundingAuditor$Exact", name := "times", desc := "(J)V" } : Jvm.MethodName) ({ cls := "RoundingAuditor$Exact", name := "times", desc := "(J)V" } : Jvm.MethodName)) ∈ lw_all := lw_g (lw_at lw_m2 56 rfl) rfl
theorem q361 : (Jvm.Cond.code ({ cls := "RoundingAuditor$Exact", name := "times", desc := "(J)V" } : Jvm.MethodName) prog_8_method_10_code (6 : Nat) (Option.none : Option Jvm.ClassFile.FieldType)) ∈ lw_all := lw_g (lw_at lw_m2 57 rfl) rfl
theorem q1335 : (Jvm.Cond.selects "RoundingAuditor$Exact" ({ cls := "java/lang/Object", name := "getClass", desc := "()Ljava/lang/Class;" } : Jvm.MethodName) ({ cls := "java/lang/Object", name := "getClass", desc := "()Ljava/lang/Class;" } : Jvm.MethodName)) ∈ lw_all := lw_g (lw_at lw_m6 71 rfl) rfl
theorem q1397 : (Jvm.Cond.instanceMethod ({ cls := "RoundingAuditor$Exact", name := "toFloat", desc := "()F" } : Jvm.MethodName)) ∈ lw_all := lw_g (lw_at lw_m6 133 rfl) rfl
theorem q1398 : (Jvm.Cond.selects "RoundingAuditor$Exact" ({ cls := "RoundingAuditor$Exact", name := "toFloat", desc := "()F" } : Jvm.MethodName) ({ cls := "RoundingAuditor$Exact", name := "toFloat", desc := "()F" } : Jvm.MethodName)) ∈ lw_all := lw_g (lw_at lw_m6 134 rfl) rfl
theorem q1399 : (Jvm.Cond.code ({ cls := "RoundingAuditor$Exact", name := "toFloat", desc := "()F" } : Jvm.MethodName) prog_8_method_18_code (3 : Nat) (Option.some Jvm.ClassFile.FieldType.float)) ∈ lw_all := lw_g (lw_at lw_m6 135 rfl) rfl
theorem q1400 : (Jvm.Cond.methodLink "RoundingAuditor$Exact" (76 : Nat) ({ cls := "RoundingAuditor$Exact", name := "floatOfSize", desc := "()F" } : Jvm.MethodName)) ∈ lw_all := lw_g (lw_at lw_m6 136 rfl) rfl
theorem q1401 : (Jvm.Cond.privateMethod ({ cls := "RoundingAuditor$Exact", name := "floatOfSize", desc := "()F" } : Jvm.MethodName)) ∈ lw_tbl := lw_at lw_m6 137 rfl
theorem q1402 : (Jvm.Cond.instanceMethod ({ cls := "RoundingAuditor$Exact", name := "floatOfSize", desc := "()F" } : Jvm.MethodName)) ∈ lw_all := lw_g (lw_at lw_m6 138 rfl) rfl
theorem q1403 : (Jvm.Cond.code ({ cls := "RoundingAuditor$Exact", name := "floatOfSize", desc := "()F" } : Jvm.MethodName) prog_8_method_16_code (4 : Nat) (Option.some Jvm.ClassFile.FieldType.float)) ∈ lw_all := lw_g (lw_at lw_m6 139 rfl) rfl
theorem q1404 : (Jvm.Cond.methodLink "RoundingAuditor$Exact" (60 : Nat) ({ cls := "java/lang/Float", name := "intBitsToFloat", desc := "(I)F" } : Jvm.MethodName)) ∈ lw_all := lw_g (lw_at lw_m6 140 rfl) rfl
theorem q1418 : (Jvm.Cond.instanceMethod ({ cls := "RoundingAuditor$Exact", name := "word", desc := "(I)I" } : Jvm.MethodName)) ∈ lw_all := lw_g (lw_at lw_m6 154 rfl) rfl
theorem q1419 : (Jvm.Cond.selects "RoundingAuditor$Exact" ({ cls := "RoundingAuditor$Exact", name := "word", desc := "(I)I" } : Jvm.MethodName) ({ cls := "RoundingAuditor$Exact", name := "word", desc := "(I)I" } : Jvm.MethodName)) ∈ lw_all := lw_g (lw_at lw_m6 155 rfl) rfl
theorem q1420 : (Jvm.Cond.code ({ cls := "RoundingAuditor$Exact", name := "word", desc := "(I)I" } : Jvm.MethodName) prog_8_method_4_code (2 : Nat) (Option.some Jvm.ClassFile.FieldType.int)) ∈ lw_all := lw_g (lw_at lw_m6 156 rfl) rfl
theorem q1516 : (Jvm.Cond.instanceMethod ({ cls := "RoundingAuditor$Exact", name := "add", desc := "(LRoundingAuditor$Exact;)V" } : Jvm.MethodName)) ∈ lw_all := lw_g (lw_at lw_m7 12 rfl) rfl
theorem q1517 : (Jvm.Cond.selects "RoundingAuditor$Exact" ({ cls := "RoundingAuditor$Exact", name := "add", desc := "(LRoundingAuditor$Exact;)V" } : Jvm.MethodName) ({ cls := "RoundingAuditor$Exact", name := "add", desc := "(LRoundingAuditor$Exact;)V" } : Jvm.MethodName)) ∈ lw_all := lw_g (lw_at lw_m7 13 rfl) rfl
theorem q1518 : (Jvm.Cond.code ({ cls := "RoundingAuditor$Exact", name := "add", desc := "(LRoundingAuditor$Exact;)V" } : Jvm.MethodName) prog_8_method_7_code (5 : Nat) (Option.none : Option Jvm.ClassFile.FieldType)) ∈ lw_all := lw_g (lw_at lw_m7 14 rfl) rfl
theorem q2055 : (Jvm.Cond.castable "RoundingAuditor$Exact" "java/lang/Object") ∈ lw_tbl := lw_at lw_m9 71 rfl
theorem in_X2 : ∀ w ∈ wsX20, w ∈ lw_all := lw_in wsX20 [129] (by decide +kernel) (by decide +kernel)

/-! java/util/AbstractCollection -/
set_option maxRecDepth 100000
def RJ0 : String := "java/util/AbstractCollection"
abbrev cJ0_init : ByteArray := prog_49_method_1_code
def yJ0_init : MethodName := ⟨RJ0, "<init>", "()V"⟩
theorem dJ0_init_0 : decode cJ0_init 0 = .ok (.aload_n 0, 1) := by decide +kernel
theorem dJ0_init_1 : decode cJ0_init 1 = .ok (.invokespecial 1, 3) := by decide +kernel
theorem dJ0_init_4 : decode cJ0_init 4 = .ok (.return_, 1) := by decide +kernel
theorem q67 : (Jvm.Cond.initialized "java/util/AbstractCollection") ∈ lw_all := lw_g (lw_at lw_m1 3 rfl) rfl
theorem q142 : (Jvm.Cond.instanceMethod ({ cls := "java/util/AbstractCollection", name := "<init>", desc := "()V" } : Jvm.MethodName)) ∈ lw_all := lw_g (lw_at lw_m1 78 rfl) rfl
theorem q143 : (Jvm.Cond.code ({ cls := "java/util/AbstractCollection", name := "<init>", desc := "()V" } : Jvm.MethodName) prog_49_method_1_code (1 : Nat) (Option.none : Option Jvm.ClassFile.FieldType)) ∈ lw_all := lw_g (lw_at lw_m1 79 rfl) rfl
theorem q144 : (Jvm.Cond.methodLink "java/util/AbstractCollection" (1 : Nat) ({ cls := "java/lang/Object", name := "<init>", desc := "()V" } : Jvm.MethodName)) ∈ lw_all := lw_g (lw_at lw_m1 80 rfl) rfl

/-! java/util/AbstractList -/
set_option maxRecDepth 100000
def RJ1 : String := "java/util/AbstractList"
abbrev cJ1_init : ByteArray := prog_50_method_1_code
def yJ1_init : MethodName := ⟨RJ1, "<init>", "()V"⟩
def dkwJ1_init_0 : List UInt8 := [42, 183, 0, 1, 42, 3, 181, 0, 7, 177]
abbrev dktJ1_init_0 : List UInt8 := dkwJ1_init_0 ++ []
theorem dksJ1_init_0 : cJ1_init.data.toList.drop 0 = dktJ1_init_0 := by decide +kernel
theorem dJ1_init_0 : decode cJ1_init 0 = .ok (.aload_n 0, 1) := dk_42 (dk_at dksJ1_init_0 0 rfl rfl)
theorem dJ1_init_1 : decode cJ1_init 1 = .ok (.invokespecial 1, 3) := dk_183 0 1 (dk_at dksJ1_init_0 1 rfl rfl)
theorem dJ1_init_4 : decode cJ1_init 4 = .ok (.aload_n 0, 1) := dk_42 (dk_at dksJ1_init_0 4 rfl rfl)
theorem dJ1_init_5 : decode cJ1_init 5 = .ok (.iconst 0, 1) := dk_3 (dk_at dksJ1_init_0 5 rfl rfl)
theorem dJ1_init_6 : decode cJ1_init 6 = .ok (.putfield 7, 3) := dk_181 0 7 (dk_at dksJ1_init_0 6 rfl rfl)
theorem dJ1_init_9 : decode cJ1_init 9 = .ok (.return_, 1) := dk_177 (dk_at dksJ1_init_0 9 rfl rfl)
theorem q68 : (Jvm.Cond.initialized "java/util/AbstractList") ∈ lw_all := lw_g (lw_at lw_m1 4 rfl) rfl
theorem q139 : (Jvm.Cond.instanceMethod ({ cls := "java/util/AbstractList", name := "<init>", desc := "()V" } : Jvm.MethodName)) ∈ lw_all := lw_g (lw_at lw_m1 75 rfl) rfl
theorem q140 : (Jvm.Cond.code ({ cls := "java/util/AbstractList", name := "<init>", desc := "()V" } : Jvm.MethodName) prog_50_method_1_code (1 : Nat) (Option.none : Option Jvm.ClassFile.FieldType)) ∈ lw_all := lw_g (lw_at lw_m1 76 rfl) rfl
theorem q141 : (Jvm.Cond.methodLink "java/util/AbstractList" (1 : Nat) ({ cls := "java/util/AbstractCollection", name := "<init>", desc := "()V" } : Jvm.MethodName)) ∈ lw_all := lw_g (lw_at lw_m1 77 rfl) rfl
theorem q149 : (Jvm.Cond.fieldLink "java/util/AbstractList" (7 : Nat) "java/util/AbstractList" "modCount" "I") ∈ lw_all := lw_g (lw_at lw_m1 85 rfl) rfl
theorem q157 : (Jvm.Cond.soleField "java/util/AbstractList" "modCount") ∈ lw_all := lw_g (lw_at lw_m1 93 rfl) rfl

/-! java/util/ArrayList -/
set_option maxRecDepth 100000
def RJ2 : String := "java/util/ArrayList"
def TJ2 : u_T := fun k => match k with
  | 0 => ("java/util/AbstractList", "modCount", "I", false)
  | 1 => ("java/util/ArrayList", "elementData", "[Ljava/lang/Object;", false)
  | _ => ("java/util/ArrayList", "size", "I", false)
def tyJ2 : Nat → FieldType := fun k => match k with
  | 0 => .int
  | 1 => .array (.object "java/lang/Object")
  | _ => .int
abbrev wsJ20 : List Cond := u_ws RJ2 TJ2 3
theorem nmJ2 : ∀ a, a < 3 → ∀ b, b < 3 → a ≠ b → (TJ2 a).2.1 ≠ (TJ2 b).2.1 := by decide +kernel
theorem tyJ2_ok : ∀ k, k < 3 → parseFieldDescriptor (TJ2 k).2.2.1 = some (tyJ2 k) := by decide +kernel
abbrev cJ2_init : ByteArray := prog_51_method_2_code
def yJ2_init : MethodName := ⟨RJ2, "<init>", "()V"⟩
def dkwJ2_init_0 : List UInt8 := [42, 183, 0, 1, 42, 178, 0, 39, 181, 0, 9, 177]
abbrev dktJ2_init_0 : List UInt8 := dkwJ2_init_0 ++ []
theorem dksJ2_init_0 : cJ2_init.data.toList.drop 0 = dktJ2_init_0 := by decide +kernel
theorem dJ2_init_0 : decode cJ2_init 0 = .ok (.aload_n 0, 1) := dk_42 (dk_at dksJ2_init_0 0 rfl rfl)
theorem dJ2_init_1 : decode cJ2_init 1 = .ok (.invokespecial 1, 3) := dk_183 0 1 (dk_at dksJ2_init_0 1 rfl rfl)
theorem dJ2_init_4 : decode cJ2_init 4 = .ok (.aload_n 0, 1) := dk_42 (dk_at dksJ2_init_0 4 rfl rfl)
theorem dJ2_init_5 : decode cJ2_init 5 = .ok (.getstatic 39, 3) := dk_178 0 39 (dk_at dksJ2_init_0 5 rfl rfl)
theorem dJ2_init_8 : decode cJ2_init 8 = .ok (.putfield 9, 3) := dk_181 0 9 (dk_at dksJ2_init_0 8 rfl rfl)
theorem dJ2_init_11 : decode cJ2_init 11 = .ok (.return_, 1) := dk_177 (dk_at dksJ2_init_0 11 rfl rfl)
abbrev cJ2_size : ByteArray := prog_51_method_8_code
def yJ2_size : MethodName := ⟨RJ2, "size", "()I"⟩
theorem dJ2_size_0 : decode cJ2_size 0 = .ok (.aload_n 0, 1) := by decide +kernel
theorem dJ2_size_1 : decode cJ2_size 1 = .ok (.getfield 48, 3) := by decide +kernel
theorem dJ2_size_4 : decode cJ2_size 4 = .ok (.ireturn, 1) := by decide +kernel
abbrev cJ2_get : ByteArray := prog_51_method_20_code
def yJ2_get : MethodName := ⟨RJ2, "get", "(I)Ljava/lang/Object;"⟩
def dkwJ2_get_0 : List UInt8 := [27, 42, 180, 0, 48, 184, 0, 118, 87, 42, 27, 182, 0, 123, 176]
abbrev dktJ2_get_0 : List UInt8 := dkwJ2_get_0 ++ []
theorem dksJ2_get_0 : cJ2_get.data.toList.drop 0 = dktJ2_get_0 := by decide +kernel
theorem dJ2_get_0 : decode cJ2_get 0 = .ok (.iload_n 1, 1) := dk_27 (dk_at dksJ2_get_0 0 rfl rfl)
theorem dJ2_get_1 : decode cJ2_get 1 = .ok (.aload_n 0, 1) := dk_42 (dk_at dksJ2_get_0 1 rfl rfl)
theorem dJ2_get_2 : decode cJ2_get 2 = .ok (.getfield 48, 3) := dk_180 0 48 (dk_at dksJ2_get_0 2 rfl rfl)
theorem dJ2_get_5 : decode cJ2_get 5 = .ok (.invokestatic 118, 3) := dk_184 0 118 (dk_at dksJ2_get_0 5 rfl rfl)
theorem dJ2_get_8 : decode cJ2_get 8 = .ok (.pop, 1) := dk_87 (dk_at dksJ2_get_0 8 rfl rfl)
theorem dJ2_get_9 : decode cJ2_get 9 = .ok (.aload_n 0, 1) := dk_42 (dk_at dksJ2_get_0 9 rfl rfl)
theorem dJ2_get_10 : decode cJ2_get 10 = .ok (.iload_n 1, 1) := dk_27 (dk_at dksJ2_get_0 10 rfl rfl)
theorem dJ2_get_11 : decode cJ2_get 11 = .ok (.invokevirtual 123, 3) := dk_182 0 123 (dk_at dksJ2_get_0 11 rfl rfl)
theorem dJ2_get_14 : decode cJ2_get 14 = .ok (.areturn, 1) := dk_176 (dk_at dksJ2_get_0 14 rfl rfl)
abbrev cJ2_elementData : ByteArray := prog_51_method_18_code
def yJ2_elementData : MethodName := ⟨RJ2, "elementData", "(I)Ljava/lang/Object;"⟩
def dkwJ2_elementData_0 : List UInt8 := [42, 180, 0, 9, 27, 50, 176]
abbrev dktJ2_elementData_0 : List UInt8 := dkwJ2_elementData_0 ++ []
theorem dksJ2_elementData_0 : cJ2_elementData.data.toList.drop 0 = dktJ2_elementData_0 := by decide +kernel
theorem dJ2_elementData_0 : decode cJ2_elementData 0 = .ok (.aload_n 0, 1) := dk_42 (dk_at dksJ2_elementData_0 0 rfl rfl)
theorem dJ2_elementData_1 : decode cJ2_elementData 1 = .ok (.getfield 9, 3) := dk_180 0 9 (dk_at dksJ2_elementData_0 1 rfl rfl)
theorem dJ2_elementData_4 : decode cJ2_elementData 4 = .ok (.iload_n 1, 1) := dk_27 (dk_at dksJ2_elementData_0 4 rfl rfl)
theorem dJ2_elementData_5 : decode cJ2_elementData 5 = .ok (.aaload, 1) := dk_50 (dk_at dksJ2_elementData_0 5 rfl rfl)
theorem dJ2_elementData_6 : decode cJ2_elementData 6 = .ok (.areturn, 1) := dk_176 (dk_at dksJ2_elementData_0 6 rfl rfl)
abbrev cJ2_clear : ByteArray := prog_51_method_40_code
def yJ2_clear : MethodName := ⟨RJ2, "clear", "()V"⟩
def dkwJ2_clear_1 : List UInt8 := [181, 0, 48, 62, 29, 28, 162, 0, 13, 43, 29, 1, 83, 132, 3, 1, 167, 255, 244, 177]
abbrev dktJ2_clear_1 : List UInt8 := dkwJ2_clear_1 ++ []
def dkwJ2_clear_0 : List UInt8 := [42, 89, 180, 0, 63, 4, 96, 181, 0, 63, 42, 180, 0, 9, 76, 42, 180, 0, 48, 61, 42, 3, 90]
abbrev dktJ2_clear_0 : List UInt8 := dkwJ2_clear_0 ++ dktJ2_clear_1
theorem dksJ2_clear_0 : cJ2_clear.data.toList.drop 0 = dktJ2_clear_0 := by decide +kernel
theorem dksJ2_clear_1 : cJ2_clear.data.toList.drop 23 = dktJ2_clear_1 := dk_seg dksJ2_clear_0 23 rfl rfl
theorem dJ2_clear_0 : decode cJ2_clear 0 = .ok (.aload_n 0, 1) := dk_42 (dk_at dksJ2_clear_0 0 rfl rfl)
theorem dJ2_clear_1 : decode cJ2_clear 1 = .ok (.dup, 1) := dk_89 (dk_at dksJ2_clear_0 1 rfl rfl)
theorem dJ2_clear_2 : decode cJ2_clear 2 = .ok (.getfield 63, 3) := dk_180 0 63 (dk_at dksJ2_clear_0 2 rfl rfl)
theorem dJ2_clear_5 : decode cJ2_clear 5 = .ok (.iconst 1, 1) := dk_4 (dk_at dksJ2_clear_0 5 rfl rfl)
theorem dJ2_clear_6 : decode cJ2_clear 6 = .ok (.iadd, 1) := dk_96 (dk_at dksJ2_clear_0 6 rfl rfl)
theorem dJ2_clear_7 : decode cJ2_clear 7 = .ok (.putfield 63, 3) := dk_181 0 63 (dk_at dksJ2_clear_0 7 rfl rfl)
theorem dJ2_clear_10 : decode cJ2_clear 10 = .ok (.aload_n 0, 1) := dk_42 (dk_at dksJ2_clear_0 10 rfl rfl)
theorem dJ2_clear_11 : decode cJ2_clear 11 = .ok (.getfield 9, 3) := dk_180 0 9 (dk_at dksJ2_clear_0 11 rfl rfl)
theorem dJ2_clear_14 : decode cJ2_clear 14 = .ok (.astore_n 1, 1) := dk_76 (dk_at dksJ2_clear_0 14 rfl rfl)
theorem dJ2_clear_15 : decode cJ2_clear 15 = .ok (.aload_n 0, 1) := dk_42 (dk_at dksJ2_clear_0 15 rfl rfl)
theorem dJ2_clear_16 : decode cJ2_clear 16 = .ok (.getfield 48, 3) := dk_180 0 48 (dk_at dksJ2_clear_0 16 rfl rfl)
theorem dJ2_clear_19 : decode cJ2_clear 19 = .ok (.istore_n 2, 1) := dk_61 (dk_at dksJ2_clear_0 19 rfl rfl)
theorem dJ2_clear_20 : decode cJ2_clear 20 = .ok (.aload_n 0, 1) := dk_42 (dk_at dksJ2_clear_0 20 rfl rfl)
theorem dJ2_clear_21 : decode cJ2_clear 21 = .ok (.iconst 0, 1) := dk_3 (dk_at dksJ2_clear_0 21 rfl rfl)
theorem dJ2_clear_22 : decode cJ2_clear 22 = .ok (.dup_x1, 1) := dk_90 (dk_at dksJ2_clear_0 22 rfl rfl)
theorem dJ2_clear_23 : decode cJ2_clear 23 = .ok (.putfield 48, 3) := dk_181 0 48 (dk_at dksJ2_clear_1 0 rfl rfl)
theorem dJ2_clear_26 : decode cJ2_clear 26 = .ok (.istore_n 3, 1) := dk_62 (dk_at dksJ2_clear_1 3 rfl rfl)
theorem dJ2_clear_27 : decode cJ2_clear 27 = .ok (.iload_n 3, 1) := dk_29 (dk_at dksJ2_clear_1 4 rfl rfl)
theorem dJ2_clear_28 : decode cJ2_clear 28 = .ok (.iload_n 2, 1) := dk_28 (dk_at dksJ2_clear_1 5 rfl rfl)
theorem dJ2_clear_29 : decode cJ2_clear 29 = .ok (.if_icmp .ge 13, 3) := dk_162 0 13 (dk_at dksJ2_clear_1 6 rfl rfl)
theorem dJ2_clear_32 : decode cJ2_clear 32 = .ok (.aload_n 1, 1) := dk_43 (dk_at dksJ2_clear_1 9 rfl rfl)
theorem dJ2_clear_33 : decode cJ2_clear 33 = .ok (.iload_n 3, 1) := dk_29 (dk_at dksJ2_clear_1 10 rfl rfl)
theorem dJ2_clear_34 : decode cJ2_clear 34 = .ok (.aconst_null, 1) := dk_1 (dk_at dksJ2_clear_1 11 rfl rfl)
theorem dJ2_clear_35 : decode cJ2_clear 35 = .ok (.aastore, 1) := dk_83 (dk_at dksJ2_clear_1 12 rfl rfl)
theorem dJ2_clear_36 : decode cJ2_clear 36 = .ok (.iinc 3 1, 3) := dk_132 3 1 (dk_at dksJ2_clear_1 13 rfl rfl)
theorem dJ2_clear_39 : decode cJ2_clear 39 = .ok (.goto (-12), 3) := dk_167 255 244 (dk_at dksJ2_clear_1 16 rfl rfl)
theorem dJ2_clear_42 : decode cJ2_clear 42 = .ok (.return_, 1) := dk_177 (dk_at dksJ2_clear_1 19 rfl rfl)
abbrev cJ2_add : ByteArray := prog_51_method_25_code
def yJ2_add : MethodName := ⟨RJ2, "add", "(Ljava/lang/Object;)Z"⟩
def dkwJ2_add_1 : List UInt8 := [172]
abbrev dktJ2_add_1 : List UInt8 := dkwJ2_add_1 ++ []
def dkwJ2_add_0 : List UInt8 := [42, 89, 180, 0, 63, 4, 96, 181, 0, 63, 42, 43, 42, 180, 0, 9, 42, 180, 0, 48, 182, 0, 131, 4]
abbrev dktJ2_add_0 : List UInt8 := dkwJ2_add_0 ++ dktJ2_add_1
theorem dksJ2_add_0 : cJ2_add.data.toList.drop 0 = dktJ2_add_0 := by decide +kernel
theorem dksJ2_add_1 : cJ2_add.data.toList.drop 24 = dktJ2_add_1 := dk_seg dksJ2_add_0 24 rfl rfl
theorem dJ2_add_0 : decode cJ2_add 0 = .ok (.aload_n 0, 1) := dk_42 (dk_at dksJ2_add_0 0 rfl rfl)
theorem dJ2_add_1 : decode cJ2_add 1 = .ok (.dup, 1) := dk_89 (dk_at dksJ2_add_0 1 rfl rfl)
theorem dJ2_add_2 : decode cJ2_add 2 = .ok (.getfield 63, 3) := dk_180 0 63 (dk_at dksJ2_add_0 2 rfl rfl)
theorem dJ2_add_5 : decode cJ2_add 5 = .ok (.iconst 1, 1) := dk_4 (dk_at dksJ2_add_0 5 rfl rfl)
theorem dJ2_add_6 : decode cJ2_add 6 = .ok (.iadd, 1) := dk_96 (dk_at dksJ2_add_0 6 rfl rfl)
theorem dJ2_add_7 : decode cJ2_add 7 = .ok (.putfield 63, 3) := dk_181 0 63 (dk_at dksJ2_add_0 7 rfl rfl)
theorem dJ2_add_10 : decode cJ2_add 10 = .ok (.aload_n 0, 1) := dk_42 (dk_at dksJ2_add_0 10 rfl rfl)
theorem dJ2_add_11 : decode cJ2_add 11 = .ok (.aload_n 1, 1) := dk_43 (dk_at dksJ2_add_0 11 rfl rfl)
theorem dJ2_add_12 : decode cJ2_add 12 = .ok (.aload_n 0, 1) := dk_42 (dk_at dksJ2_add_0 12 rfl rfl)
theorem dJ2_add_13 : decode cJ2_add 13 = .ok (.getfield 9, 3) := dk_180 0 9 (dk_at dksJ2_add_0 13 rfl rfl)
theorem dJ2_add_16 : decode cJ2_add 16 = .ok (.aload_n 0, 1) := dk_42 (dk_at dksJ2_add_0 16 rfl rfl)
theorem dJ2_add_17 : decode cJ2_add 17 = .ok (.getfield 48, 3) := dk_180 0 48 (dk_at dksJ2_add_0 17 rfl rfl)
theorem dJ2_add_20 : decode cJ2_add 20 = .ok (.invokevirtual 131, 3) := dk_182 0 131 (dk_at dksJ2_add_0 20 rfl rfl)
theorem dJ2_add_23 : decode cJ2_add 23 = .ok (.iconst 1, 1) := dk_4 (dk_at dksJ2_add_0 23 rfl rfl)
theorem dJ2_add_24 : decode cJ2_add 24 = .ok (.ireturn, 1) := dk_172 (dk_at dksJ2_add_1 0 rfl rfl)
abbrev cJ2_add_2 : ByteArray := prog_51_method_24_code
def yJ2_add_2 : MethodName := ⟨RJ2, "add", "(Ljava/lang/Object;[Ljava/lang/Object;I)V"⟩
def dkwJ2_add_2_0 : List UInt8 := [29, 44, 190, 160, 0, 8, 42, 182, 0, 129, 77, 44, 29, 43, 83, 42, 29, 4, 96, 181, 0, 48, 177]
abbrev dktJ2_add_2_0 : List UInt8 := dkwJ2_add_2_0 ++ []
theorem dksJ2_add_2_0 : cJ2_add_2.data.toList.drop 0 = dktJ2_add_2_0 := by decide +kernel
theorem dJ2_add_2_0 : decode cJ2_add_2 0 = .ok (.iload_n 3, 1) := dk_29 (dk_at dksJ2_add_2_0 0 rfl rfl)
theorem dJ2_add_2_1 : decode cJ2_add_2 1 = .ok (.aload_n 2, 1) := dk_44 (dk_at dksJ2_add_2_0 1 rfl rfl)
theorem dJ2_add_2_2 : decode cJ2_add_2 2 = .ok (.arraylength, 1) := dk_190 (dk_at dksJ2_add_2_0 2 rfl rfl)
theorem dJ2_add_2_3 : decode cJ2_add_2 3 = .ok (.if_icmp .ne 8, 3) := dk_160 0 8 (dk_at dksJ2_add_2_0 3 rfl rfl)
theorem dJ2_add_2_6 : decode cJ2_add_2 6 = .ok (.aload_n 0, 1) := dk_42 (dk_at dksJ2_add_2_0 6 rfl rfl)
theorem dJ2_add_2_7 : decode cJ2_add_2 7 = .ok (.invokevirtual 129, 3) := dk_182 0 129 (dk_at dksJ2_add_2_0 7 rfl rfl)
theorem dJ2_add_2_10 : decode cJ2_add_2 10 = .ok (.astore_n 2, 1) := dk_77 (dk_at dksJ2_add_2_0 10 rfl rfl)
theorem dJ2_add_2_11 : decode cJ2_add_2 11 = .ok (.aload_n 2, 1) := dk_44 (dk_at dksJ2_add_2_0 11 rfl rfl)
theorem dJ2_add_2_12 : decode cJ2_add_2 12 = .ok (.iload_n 3, 1) := dk_29 (dk_at dksJ2_add_2_0 12 rfl rfl)
theorem dJ2_add_2_13 : decode cJ2_add_2 13 = .ok (.aload_n 1, 1) := dk_43 (dk_at dksJ2_add_2_0 13 rfl rfl)
theorem dJ2_add_2_14 : decode cJ2_add_2 14 = .ok (.aastore, 1) := dk_83 (dk_at dksJ2_add_2_0 14 rfl rfl)
theorem dJ2_add_2_15 : decode cJ2_add_2 15 = .ok (.aload_n 0, 1) := dk_42 (dk_at dksJ2_add_2_0 15 rfl rfl)
theorem dJ2_add_2_16 : decode cJ2_add_2 16 = .ok (.iload_n 3, 1) := dk_29 (dk_at dksJ2_add_2_0 16 rfl rfl)
theorem dJ2_add_2_17 : decode cJ2_add_2 17 = .ok (.iconst 1, 1) := dk_4 (dk_at dksJ2_add_2_0 17 rfl rfl)
theorem dJ2_add_2_18 : decode cJ2_add_2 18 = .ok (.iadd, 1) := dk_96 (dk_at dksJ2_add_2_0 18 rfl rfl)
theorem dJ2_add_2_19 : decode cJ2_add_2 19 = .ok (.putfield 48, 3) := dk_181 0 48 (dk_at dksJ2_add_2_0 19 rfl rfl)
theorem dJ2_add_2_22 : decode cJ2_add_2 22 = .ok (.return_, 1) := dk_177 (dk_at dksJ2_add_2_0 22 rfl rfl)
abbrev cJ2_grow : ByteArray := prog_51_method_7_code
def yJ2_grow : MethodName := ⟨RJ2, "grow", "()[Ljava/lang/Object;"⟩
def dkwJ2_grow_0 : List UInt8 := [42, 42, 180, 0, 48, 4, 96, 182, 0, 69, 176]
abbrev dktJ2_grow_0 : List UInt8 := dkwJ2_grow_0 ++ []
theorem dksJ2_grow_0 : cJ2_grow.data.toList.drop 0 = dktJ2_grow_0 := by decide +kernel
theorem dJ2_grow_0 : decode cJ2_grow 0 = .ok (.aload_n 0, 1) := dk_42 (dk_at dksJ2_grow_0 0 rfl rfl)
theorem dJ2_grow_1 : decode cJ2_grow 1 = .ok (.aload_n 0, 1) := dk_42 (dk_at dksJ2_grow_0 1 rfl rfl)
theorem dJ2_grow_2 : decode cJ2_grow 2 = .ok (.getfield 48, 3) := dk_180 0 48 (dk_at dksJ2_grow_0 2 rfl rfl)
theorem dJ2_grow_5 : decode cJ2_grow 5 = .ok (.iconst 1, 1) := dk_4 (dk_at dksJ2_grow_0 5 rfl rfl)
theorem dJ2_grow_6 : decode cJ2_grow 6 = .ok (.iadd, 1) := dk_96 (dk_at dksJ2_grow_0 6 rfl rfl)
theorem dJ2_grow_7 : decode cJ2_grow 7 = .ok (.invokevirtual 69, 3) := dk_182 0 69 (dk_at dksJ2_grow_0 7 rfl rfl)
theorem dJ2_grow_10 : decode cJ2_grow 10 = .ok (.areturn, 1) := dk_176 (dk_at dksJ2_grow_0 10 rfl rfl)
abbrev cJ2_grow_2 : ByteArray := prog_51_method_6_code
def yJ2_grow_2 : MethodName := ⟨RJ2, "grow", "(I)[Ljava/lang/Object;"⟩
def dkwJ2_grow_2_2 : List UInt8 := [27, 184, 0, 79, 189, 0, 7, 90, 181, 0, 9, 176]
abbrev dktJ2_grow_2_2 : List UInt8 := dkwJ2_grow_2_2 ++ []
def dkwJ2_grow_2_1 : List UInt8 := [28, 4, 122, 184, 0, 73, 62, 42, 42, 180, 0, 9, 29, 184, 0, 66, 90, 181, 0, 9, 176, 42, 16, 10]
abbrev dktJ2_grow_2_1 : List UInt8 := dkwJ2_grow_2_1 ++ dktJ2_grow_2_2
def dkwJ2_grow_2_0 : List UInt8 := [42, 180, 0, 9, 190, 61, 28, 157, 0, 13, 42, 180, 0, 9, 178, 0, 39, 165, 0, 28, 28, 27, 28, 100]
abbrev dktJ2_grow_2_0 : List UInt8 := dkwJ2_grow_2_0 ++ dktJ2_grow_2_1
theorem dksJ2_grow_2_0 : cJ2_grow_2.data.toList.drop 0 = dktJ2_grow_2_0 := by decide +kernel
theorem dksJ2_grow_2_1 : cJ2_grow_2.data.toList.drop 24 = dktJ2_grow_2_1 := dk_seg dksJ2_grow_2_0 24 rfl rfl
theorem dksJ2_grow_2_2 : cJ2_grow_2.data.toList.drop 48 = dktJ2_grow_2_2 := dk_seg dksJ2_grow_2_1 24 rfl rfl
theorem dJ2_grow_2_0 : decode cJ2_grow_2 0 = .ok (.aload_n 0, 1) := dk_42 (dk_at dksJ2_grow_2_0 0 rfl rfl)
theorem dJ2_grow_2_1 : decode cJ2_grow_2 1 = .ok (.getfield 9, 3) := dk_180 0 9 (dk_at dksJ2_grow_2_0 1 rfl rfl)
theorem dJ2_grow_2_4 : decode cJ2_grow_2 4 = .ok (.arraylength, 1) := dk_190 (dk_at dksJ2_grow_2_0 4 rfl rfl)
theorem dJ2_grow_2_5 : decode cJ2_grow_2 5 = .ok (.istore_n 2, 1) := dk_61 (dk_at dksJ2_grow_2_0 5 rfl rfl)
theorem dJ2_grow_2_6 : decode cJ2_grow_2 6 = .ok (.iload_n 2, 1) := dk_28 (dk_at dksJ2_grow_2_0 6 rfl rfl)
theorem dJ2_grow_2_7 : decode cJ2_grow_2 7 = .ok (.ifCond .gt 13, 3) := dk_157 0 13 (dk_at dksJ2_grow_2_0 7 rfl rfl)
theorem dJ2_grow_2_10 : decode cJ2_grow_2 10 = .ok (.aload_n 0, 1) := dk_42 (dk_at dksJ2_grow_2_0 10 rfl rfl)
theorem dJ2_grow_2_11 : decode cJ2_grow_2 11 = .ok (.getfield 9, 3) := dk_180 0 9 (dk_at dksJ2_grow_2_0 11 rfl rfl)
theorem dJ2_grow_2_14 : decode cJ2_grow_2 14 = .ok (.getstatic 39, 3) := dk_178 0 39 (dk_at dksJ2_grow_2_0 14 rfl rfl)
theorem dJ2_grow_2_17 : decode cJ2_grow_2 17 = .ok (.if_acmp .eq 28, 3) := dk_165 0 28 (dk_at dksJ2_grow_2_0 17 rfl rfl)
theorem dJ2_grow_2_20 : decode cJ2_grow_2 20 = .ok (.iload_n 2, 1) := dk_28 (dk_at dksJ2_grow_2_0 20 rfl rfl)
theorem dJ2_grow_2_21 : decode cJ2_grow_2 21 = .ok (.iload_n 1, 1) := dk_27 (dk_at dksJ2_grow_2_0 21 rfl rfl)
theorem dJ2_grow_2_22 : decode cJ2_grow_2 22 = .ok (.iload_n 2, 1) := dk_28 (dk_at dksJ2_grow_2_0 22 rfl rfl)
theorem dJ2_grow_2_23 : decode cJ2_grow_2 23 = .ok (.isub, 1) := dk_100 (dk_at dksJ2_grow_2_0 23 rfl rfl)
theorem dJ2_grow_2_24 : decode cJ2_grow_2 24 = .ok (.iload_n 2, 1) := dk_28 (dk_at dksJ2_grow_2_1 0 rfl rfl)
theorem dJ2_grow_2_25 : decode cJ2_grow_2 25 = .ok (.iconst 1, 1) := dk_4 (dk_at dksJ2_grow_2_1 1 rfl rfl)
theorem dJ2_grow_2_26 : decode cJ2_grow_2 26 = .ok (.ishr, 1) := dk_122 (dk_at dksJ2_grow_2_1 2 rfl rfl)
theorem dJ2_grow_2_27 : decode cJ2_grow_2 27 = .ok (.invokestatic 73, 3) := dk_184 0 73 (dk_at dksJ2_grow_2_1 3 rfl rfl)
theorem dJ2_grow_2_30 : decode cJ2_grow_2 30 = .ok (.istore_n 3, 1) := dk_62 (dk_at dksJ2_grow_2_1 6 rfl rfl)
theorem dJ2_grow_2_31 : decode cJ2_grow_2 31 = .ok (.aload_n 0, 1) := dk_42 (dk_at dksJ2_grow_2_1 7 rfl rfl)
theorem dJ2_grow_2_32 : decode cJ2_grow_2 32 = .ok (.aload_n 0, 1) := dk_42 (dk_at dksJ2_grow_2_1 8 rfl rfl)
theorem dJ2_grow_2_33 : decode cJ2_grow_2 33 = .ok (.getfield 9, 3) := dk_180 0 9 (dk_at dksJ2_grow_2_1 9 rfl rfl)
theorem dJ2_grow_2_36 : decode cJ2_grow_2 36 = .ok (.iload_n 3, 1) := dk_29 (dk_at dksJ2_grow_2_1 12 rfl rfl)
theorem dJ2_grow_2_37 : decode cJ2_grow_2 37 = .ok (.invokestatic 66, 3) := dk_184 0 66 (dk_at dksJ2_grow_2_1 13 rfl rfl)
theorem dJ2_grow_2_40 : decode cJ2_grow_2 40 = .ok (.dup_x1, 1) := dk_90 (dk_at dksJ2_grow_2_1 16 rfl rfl)
theorem dJ2_grow_2_41 : decode cJ2_grow_2 41 = .ok (.putfield 9, 3) := dk_181 0 9 (dk_at dksJ2_grow_2_1 17 rfl rfl)
theorem dJ2_grow_2_44 : decode cJ2_grow_2 44 = .ok (.areturn, 1) := dk_176 (dk_at dksJ2_grow_2_1 20 rfl rfl)
theorem dJ2_grow_2_45 : decode cJ2_grow_2 45 = .ok (.aload_n 0, 1) := dk_42 (dk_at dksJ2_grow_2_1 21 rfl rfl)
theorem dJ2_grow_2_46 : decode cJ2_grow_2 46 = .ok (.bipush 10, 2) := dk_16 10 (dk_at dksJ2_grow_2_1 22 rfl rfl)
theorem dJ2_grow_2_48 : decode cJ2_grow_2 48 = .ok (.iload_n 1, 1) := dk_27 (dk_at dksJ2_grow_2_2 0 rfl rfl)
theorem dJ2_grow_2_49 : decode cJ2_grow_2 49 = .ok (.invokestatic 79, 3) := dk_184 0 79 (dk_at dksJ2_grow_2_2 1 rfl rfl)
theorem dJ2_grow_2_52 : decode cJ2_grow_2 52 = .ok (.anewarray 7, 3) := dk_189 0 7 (dk_at dksJ2_grow_2_2 4 rfl rfl)
theorem dJ2_grow_2_55 : decode cJ2_grow_2 55 = .ok (.dup_x1, 1) := dk_90 (dk_at dksJ2_grow_2_2 7 rfl rfl)
theorem dJ2_grow_2_56 : decode cJ2_grow_2 56 = .ok (.putfield 9, 3) := dk_181 0 9 (dk_at dksJ2_grow_2_2 8 rfl rfl)
theorem dJ2_grow_2_59 : decode cJ2_grow_2 59 = .ok (.areturn, 1) := dk_176 (dk_at dksJ2_grow_2_2 11 rfl rfl)
theorem q69 : (Jvm.Cond.initialized "java/util/ArrayList") ∈ lw_all := lw_g (lw_at lw_m1 5 rfl) rfl
theorem q134 : (Jvm.Cond.instantiable "java/util/ArrayList" (3 : Nat)) ∈ lw_all := lw_g (lw_at lw_m1 70 rfl) rfl
theorem q136 : (Jvm.Cond.instanceMethod ({ cls := "java/util/ArrayList", name := "<init>", desc := "()V" } : Jvm.MethodName)) ∈ lw_all := lw_g (lw_at lw_m1 72 rfl) rfl
theorem q137 : (Jvm.Cond.code ({ cls := "java/util/ArrayList", name := "<init>", desc := "()V" } : Jvm.MethodName) prog_51_method_2_code (1 : Nat) (Option.none : Option Jvm.ClassFile.FieldType)) ∈ lw_all := lw_g (lw_at lw_m1 73 rfl) rfl
theorem q138 : (Jvm.Cond.methodLink "java/util/ArrayList" (1 : Nat) ({ cls := "java/util/AbstractList", name := "<init>", desc := "()V" } : Jvm.MethodName)) ∈ lw_all := lw_g (lw_at lw_m1 74 rfl) rfl
theorem q145 : (Jvm.Cond.fieldLink "java/util/ArrayList" (39 : Nat) "java/util/ArrayList" "DEFAULTCAPACITY_EMPTY_ELEMENTDATA" "[Ljava/lang/Object;") ∈ lw_all := lw_g (lw_at lw_m1 81 rfl) rfl
theorem q146 : (Jvm.Cond.laysStatic "java/util/ArrayList" "DEFAULTCAPACITY_EMPTY_ELEMENTDATA" "[Ljava/lang/Object;") ∈ lw_tbl := lw_at lw_m1 82 rfl
theorem q147 : (Jvm.Cond.fieldLink "java/util/ArrayList" (9 : Nat) "java/util/ArrayList" "elementData" "[Ljava/lang/Object;") ∈ lw_all := lw_g (lw_at lw_m1 83 rfl) rfl
theorem q148 : (Jvm.Cond.fieldLink "java/util/ArrayList" (48 : Nat) "java/util/ArrayList" "size" "I") ∈ lw_all := lw_g (lw_at lw_m1 84 rfl) rfl
theorem q150 : (Jvm.Cond.fieldLink "java/util/ArrayList" (63 : Nat) "java/util/ArrayList" "modCount" "I") ∈ lw_all := lw_g (lw_at lw_m1 86 rfl) rfl
theorem q151 : (Jvm.Cond.sameField "java/util/ArrayList" "java/util/AbstractList" "modCount" "I") ∈ lw_all := lw_g (lw_at lw_m1 87 rfl) rfl
theorem q152 : (Jvm.Cond.lays "java/util/ArrayList" "java/util/ArrayList" "elementData" "[Ljava/lang/Object;") ∈ lw_all := lw_g (lw_at lw_m1 88 rfl) rfl
theorem q153 : (Jvm.Cond.soleField "java/util/ArrayList" "elementData") ∈ lw_all := lw_g (lw_at lw_m1 89 rfl) rfl
theorem q154 : (Jvm.Cond.lays "java/util/ArrayList" "java/util/ArrayList" "size" "I") ∈ lw_all := lw_g (lw_at lw_m1 90 rfl) rfl
theorem q155 : (Jvm.Cond.soleField "java/util/ArrayList" "size") ∈ lw_all := lw_g (lw_at lw_m1 91 rfl) rfl
theorem q156 : (Jvm.Cond.lays "java/util/ArrayList" "java/util/AbstractList" "modCount" "I") ∈ lw_all := lw_g (lw_at lw_m1 92 rfl) rfl
theorem q158 : (Jvm.Cond.superclass "java/util/ArrayList" "java/util/AbstractList") ∈ lw_all := lw_g (lw_at lw_m1 94 rfl) rfl
theorem q193 : (Jvm.Cond.castable "java/util/ArrayList" "java/util/List") ∈ lw_tbl := lw_at lw_m1 129 rfl
theorem q194 : (Jvm.Cond.selects "java/util/ArrayList" ({ cls := "java/util/List", name := "size", desc := "()I" } : Jvm.MethodName) ({ cls := "java/util/ArrayList", name := "size", desc := "()I" } : Jvm.MethodName)) ∈ lw_all := lw_g (lw_at lw_m1 130 rfl) rfl
theorem q195 : (Jvm.Cond.unhidden "java/util/ArrayList" "size" "()I") ∈ lw_tbl := lw_at lw_m1 131 rfl
theorem q196 : (Jvm.Cond.instanceMethod ({ cls := "java/util/ArrayList", name := "size", desc := "()I" } : Jvm.MethodName)) ∈ lw_all := lw_g (lw_at lw_m1 132 rfl) rfl
theorem q197 : (Jvm.Cond.publicMethod ({ cls := "java/util/ArrayList", name := "size", desc := "()I" } : Jvm.MethodName)) ∈ lw_tbl := lw_at lw_m1 133 rfl
theorem q198 : (Jvm.Cond.code ({ cls := "java/util/ArrayList", name := "size", desc := "()I" } : Jvm.MethodName) prog_51_method_8_code (1 : Nat) (Option.some Jvm.ClassFile.FieldType.int)) ∈ lw_all := lw_g (lw_at lw_m1 134 rfl) rfl
theorem q206 : (Jvm.Cond.selects "java/util/ArrayList" ({ cls := "java/util/List", name := "get", desc := "(I)Ljava/lang/Object;" } : Jvm.MethodName) ({ cls := "java/util/ArrayList", name := "get", desc := "(I)Ljava/lang/Object;" } : Jvm.MethodName)) ∈ lw_all := lw_g (lw_at lw_m1 142 rfl) rfl
theorem q207 : (Jvm.Cond.unhidden "java/util/ArrayList" "get" "(I)Ljava/lang/Object;") ∈ lw_tbl := lw_at lw_m1 143 rfl
theorem q208 : (Jvm.Cond.instanceMethod ({ cls := "java/util/ArrayList", name := "get", desc := "(I)Ljava/lang/Object;" } : Jvm.MethodName)) ∈ lw_all := lw_g (lw_at lw_m1 144 rfl) rfl
theorem q209 : (Jvm.Cond.publicMethod ({ cls := "java/util/ArrayList", name := "get", desc := "(I)Ljava/lang/Object;" } : Jvm.MethodName)) ∈ lw_tbl := lw_at lw_m1 145 rfl
theorem q210 : (Jvm.Cond.code ({ cls := "java/util/ArrayList", name := "get", desc := "(I)Ljava/lang/Object;" } : Jvm.MethodName) prog_51_method_20_code (2 : Nat) (Option.some (Jvm.ClassFile.FieldType.object "java/lang/Object"))) ∈ lw_all := lw_g (lw_at lw_m1 146 rfl) rfl
theorem q211 : (Jvm.Cond.methodLink "java/util/ArrayList" (118 : Nat) ({ cls := "java/util/Objects", name := "checkIndex", desc := "(II)I" } : Jvm.MethodName)) ∈ lw_all := lw_g (lw_at lw_m1 147 rfl) rfl
theorem q217 : (Jvm.Cond.methodLink "java/util/ArrayList" (123 : Nat) ({ cls := "java/util/ArrayList", name := "elementData", desc := "(I)Ljava/lang/Object;" } : Jvm.MethodName)) ∈ lw_all := lw_g (lw_at lw_m1 153 rfl) rfl
theorem q218 : (Jvm.Cond.instanceMethod ({ cls := "java/util/ArrayList", name := "elementData", desc := "(I)Ljava/lang/Object;" } : Jvm.MethodName)) ∈ lw_all := lw_g (lw_at lw_m1 154 rfl) rfl
theorem q219 : (Jvm.Cond.selects "java/util/ArrayList" ({ cls := "java/util/ArrayList", name := "elementData", desc := "(I)Ljava/lang/Object;" } : Jvm.MethodName) ({ cls := "java/util/ArrayList", name := "elementData", desc := "(I)Ljava/lang/Object;" } : Jvm.MethodName)) ∈ lw_all := lw_g (lw_at lw_m1 155 rfl) rfl
theorem q220 : (Jvm.Cond.code ({ cls := "java/util/ArrayList", name := "elementData", desc := "(I)Ljava/lang/Object;" } : Jvm.MethodName) prog_51_method_18_code (2 : Nat) (Option.some (Jvm.ClassFile.FieldType.object "java/lang/Object"))) ∈ lw_all := lw_g (lw_at lw_m1 156 rfl) rfl
theorem q375 : (Jvm.Cond.selects "java/util/ArrayList" ({ cls := "java/util/List", name := "clear", desc := "()V" } : Jvm.MethodName) ({ cls := "java/util/ArrayList", name := "clear", desc := "()V" } : Jvm.MethodName)) ∈ lw_all := lw_g (lw_at lw_m2 71 rfl) rfl
theorem q376 : (Jvm.Cond.unhidden "java/util/ArrayList" "clear" "()V") ∈ lw_tbl := lw_at lw_m2 72 rfl
theorem q377 : (Jvm.Cond.instanceMethod ({ cls := "java/util/ArrayList", name := "clear", desc := "()V" } : Jvm.MethodName)) ∈ lw_all := lw_g (lw_at lw_m2 73 rfl) rfl
theorem q378 : (Jvm.Cond.publicMethod ({ cls := "java/util/ArrayList", name := "clear", desc := "()V" } : Jvm.MethodName)) ∈ lw_tbl := lw_at lw_m2 74 rfl
theorem q379 : (Jvm.Cond.code ({ cls := "java/util/ArrayList", name := "clear", desc := "()V" } : Jvm.MethodName) prog_51_method_40_code (4 : Nat) (Option.none : Option Jvm.ClassFile.FieldType)) ∈ lw_all := lw_g (lw_at lw_m2 75 rfl) rfl
theorem q1298 : (Jvm.Cond.selects "java/util/ArrayList" ({ cls := "java/util/List", name := "add", desc := "(Ljava/lang/Object;)Z" } : Jvm.MethodName) ({ cls := "java/util/ArrayList", name := "add", desc := "(Ljava/lang/Object;)Z" } : Jvm.MethodName)) ∈ lw_all := lw_g (lw_at lw_m6 34 rfl) rfl
theorem q1299 : (Jvm.Cond.unhidden "java/util/ArrayList" "add" "(Ljava/lang/Object;)Z") ∈ lw_tbl := lw_at lw_m6 35 rfl
theorem q1300 : (Jvm.Cond.instanceMethod ({ cls := "java/util/ArrayList", name := "add", desc := "(Ljava/lang/Object;)Z" } : Jvm.MethodName)) ∈ lw_all := lw_g (lw_at lw_m6 36 rfl) rfl
theorem q1301 : (Jvm.Cond.publicMethod ({ cls := "java/util/ArrayList", name := "add", desc := "(Ljava/lang/Object;)Z" } : Jvm.MethodName)) ∈ lw_tbl := lw_at lw_m6 37 rfl
theorem q1302 : (Jvm.Cond.code ({ cls := "java/util/ArrayList", name := "add", desc := "(Ljava/lang/Object;)Z" } : Jvm.MethodName) prog_51_method_25_code (2 : Nat) (Option.some Jvm.ClassFile.FieldType.boolean)) ∈ lw_all := lw_g (lw_at lw_m6 38 rfl) rfl
theorem q1303 : (Jvm.Cond.methodLink "java/util/ArrayList" (131 : Nat) ({ cls := "java/util/ArrayList", name := "add", desc := "(Ljava/lang/Object;[Ljava/lang/Object;I)V" } : Jvm.MethodName)) ∈ lw_all := lw_g (lw_at lw_m6 39 rfl) rfl
theorem q1304 : (Jvm.Cond.privateMethod ({ cls := "java/util/ArrayList", name := "add", desc := "(Ljava/lang/Object;[Ljava/lang/Object;I)V" } : Jvm.MethodName)) ∈ lw_tbl := lw_at lw_m6 40 rfl
theorem q1305 : (Jvm.Cond.instanceMethod ({ cls := "java/util/ArrayList", name := "add", desc := "(Ljava/lang/Object;[Ljava/lang/Object;I)V" } : Jvm.MethodName)) ∈ lw_all := lw_g (lw_at lw_m6 41 rfl) rfl
theorem q1306 : (Jvm.Cond.code ({ cls := "java/util/ArrayList", name := "add", desc := "(Ljava/lang/Object;[Ljava/lang/Object;I)V" } : Jvm.MethodName) prog_51_method_24_code (4 : Nat) (Option.none : Option Jvm.ClassFile.FieldType)) ∈ lw_all := lw_g (lw_at lw_m6 42 rfl) rfl
theorem q1307 : (Jvm.Cond.methodLink "java/util/ArrayList" (129 : Nat) ({ cls := "java/util/ArrayList", name := "grow", desc := "()[Ljava/lang/Object;" } : Jvm.MethodName)) ∈ lw_all := lw_g (lw_at lw_m6 43 rfl) rfl
theorem q1308 : (Jvm.Cond.privateMethod ({ cls := "java/util/ArrayList", name := "grow", desc := "()[Ljava/lang/Object;" } : Jvm.MethodName)) ∈ lw_tbl := lw_at lw_m6 44 rfl
theorem q1309 : (Jvm.Cond.instanceMethod ({ cls := "java/util/ArrayList", name := "grow", desc := "()[Ljava/lang/Object;" } : Jvm.MethodName)) ∈ lw_all := lw_g (lw_at lw_m6 45 rfl) rfl
theorem q1310 : (Jvm.Cond.code ({ cls := "java/util/ArrayList", name := "grow", desc := "()[Ljava/lang/Object;" } : Jvm.MethodName) prog_51_method_7_code (1 : Nat) (Option.some (Jvm.ClassFile.FieldType.array (Jvm.ClassFile.FieldType.object "java/lang/Object")))) ∈ lw_all := lw_g (lw_at lw_m6 46 rfl) rfl
theorem q1311 : (Jvm.Cond.methodLink "java/util/ArrayList" (69 : Nat) ({ cls := "java/util/ArrayList", name := "grow", desc := "(I)[Ljava/lang/Object;" } : Jvm.MethodName)) ∈ lw_all := lw_g (lw_at lw_m6 47 rfl) rfl
theorem q1312 : (Jvm.Cond.privateMethod ({ cls := "java/util/ArrayList", name := "grow", desc := "(I)[Ljava/lang/Object;" } : Jvm.MethodName)) ∈ lw_tbl := lw_at lw_m6 48 rfl
theorem q1313 : (Jvm.Cond.instanceMethod ({ cls := "java/util/ArrayList", name := "grow", desc := "(I)[Ljava/lang/Object;" } : Jvm.MethodName)) ∈ lw_all := lw_g (lw_at lw_m6 49 rfl) rfl
theorem q1314 : (Jvm.Cond.code ({ cls := "java/util/ArrayList", name := "grow", desc := "(I)[Ljava/lang/Object;" } : Jvm.MethodName) prog_51_method_6_code (4 : Nat) (Option.some (Jvm.ClassFile.FieldType.array (Jvm.ClassFile.FieldType.object "java/lang/Object")))) ∈ lw_all := lw_g (lw_at lw_m6 50 rfl) rfl
theorem q1315 : (Jvm.Cond.methodLink "java/util/ArrayList" (73 : Nat) ({ cls := "jdk/internal/util/ArraysSupport", name := "newLength", desc := "(III)I" } : Jvm.MethodName)) ∈ lw_all := lw_g (lw_at lw_m6 51 rfl) rfl
theorem q1323 : (Jvm.Cond.methodLink "java/util/ArrayList" (66 : Nat) ({ cls := "java/util/Arrays", name := "copyOf", desc := "([Ljava/lang/Object;I)[Ljava/lang/Object;" } : Jvm.MethodName)) ∈ lw_all := lw_g (lw_at lw_m6 59 rfl) rfl
theorem q1354 : (Jvm.Cond.selects "java/util/ArrayList" ({ cls := "java/lang/Object", name := "getClass", desc := "()Ljava/lang/Class;" } : Jvm.MethodName) ({ cls := "java/lang/Object", name := "getClass", desc := "()Ljava/lang/Class;" } : Jvm.MethodName)) ∈ lw_all := lw_g (lw_at lw_m6 90 rfl) rfl
theorem q1364 : (Jvm.Cond.methodLink "java/util/ArrayList" (79 : Nat) ({ cls := "java/lang/Math", name := "max", desc := "(II)I" } : Jvm.MethodName)) ∈ lw_all := lw_g (lw_at lw_m6 100 rfl) rfl
theorem q1365 : (Jvm.Cond.classLink "java/util/ArrayList" (7 : Nat) "java/lang/Object") ∈ lw_all := lw_g (lw_at lw_m6 101 rfl) rfl
theorem q2057 : (Jvm.Cond.castable "java/util/ArrayList" "java/lang/Object") ∈ lw_tbl := lw_at lw_m9 73 rfl
theorem in_J2 : ∀ w ∈ wsJ20, w ∈ lw_all := lw_in wsJ20 [156, 152, 154] (by decide +kernel) (by decide +kernel)

/-! java/lang/Throwable -/
set_option maxRecDepth 100000
def RJ3 : String := "java/lang/Throwable"
def TJ3 : u_T := fun k => match k with
  | 0 => ("java/lang/Throwable", "cause", "Ljava/lang/Throwable;", false)
  | 1 => ("java/lang/Throwable", "stackTrace", "[Ljava/lang/StackTraceElement;", false)
  | 2 => ("java/lang/Throwable", "suppressedExceptions", "Ljava/util/List;", false)
  | 3 => ("java/lang/Throwable", "detailMessage", "Ljava/lang/String;", false)
  | _ => ("java/lang/Throwable", "backtrace", "Ljava/lang/Object;", false)
def tyJ3 : Nat → FieldType := fun k => match k with
  | 0 => .object "java/lang/Throwable"
  | 1 => .array (.object "java/lang/StackTraceElement")
  | 2 => .object "java/util/List"
  | 3 => .object "java/lang/String"
  | _ => .object "java/lang/Object"
abbrev wsJ30 : List Cond := u_ws RJ3 TJ3 5
theorem nmJ3 : ∀ a, a < 5 → ∀ b, b < 5 → a ≠ b → (TJ3 a).2.1 ≠ (TJ3 b).2.1 := by decide +kernel
theorem tyJ3_ok : ∀ k, k < 5 → parseFieldDescriptor (TJ3 k).2.2.1 = some (tyJ3 k) := by decide +kernel
abbrev cJ3_init : ByteArray := prog_46_method_2_code
def yJ3_init : MethodName := ⟨RJ3, "<init>", "(Ljava/lang/String;)V"⟩
def dkwJ3_init_1 : List UInt8 := [182, 0, 27, 87, 42, 43, 181, 0, 31, 177]
abbrev dktJ3_init_1 : List UInt8 := dkwJ3_init_1 ++ []
def dkwJ3_init_0 : List UInt8 := [42, 183, 0, 1, 42, 42, 181, 0, 7, 42, 178, 0, 13, 181, 0, 17, 42, 178, 0, 20, 181, 0, 24, 42]
abbrev dktJ3_init_0 : List UInt8 := dkwJ3_init_0 ++ dktJ3_init_1
theorem dksJ3_init_0 : cJ3_init.data.toList.drop 0 = dktJ3_init_0 := by decide +kernel
theorem dksJ3_init_1 : cJ3_init.data.toList.drop 24 = dktJ3_init_1 := dk_seg dksJ3_init_0 24 rfl rfl
theorem dJ3_init_0 : decode cJ3_init 0 = .ok (.aload_n 0, 1) := dk_42 (dk_at dksJ3_init_0 0 rfl rfl)
theorem dJ3_init_1 : decode cJ3_init 1 = .ok (.invokespecial 1, 3) := dk_183 0 1 (dk_at dksJ3_init_0 1 rfl rfl)
theorem dJ3_init_4 : decode cJ3_init 4 = .ok (.aload_n 0, 1) := dk_42 (dk_at dksJ3_init_0 4 rfl rfl)
theorem dJ3_init_5 : decode cJ3_init 5 = .ok (.aload_n 0, 1) := dk_42 (dk_at dksJ3_init_0 5 rfl rfl)
theorem dJ3_init_6 : decode cJ3_init 6 = .ok (.putfield 7, 3) := dk_181 0 7 (dk_at dksJ3_init_0 6 rfl rfl)
theorem dJ3_init_9 : decode cJ3_init 9 = .ok (.aload_n 0, 1) := dk_42 (dk_at dksJ3_init_0 9 rfl rfl)
theorem dJ3_init_10 : decode cJ3_init 10 = .ok (.getstatic 13, 3) := dk_178 0 13 (dk_at dksJ3_init_0 10 rfl rfl)
theorem dJ3_init_13 : decode cJ3_init 13 = .ok (.putfield 17, 3) := dk_181 0 17 (dk_at dksJ3_init_0 13 rfl rfl)
theorem dJ3_init_16 : decode cJ3_init 16 = .ok (.aload_n 0, 1) := dk_42 (dk_at dksJ3_init_0 16 rfl rfl)
theorem dJ3_init_17 : decode cJ3_init 17 = .ok (.getstatic 20, 3) := dk_178 0 20 (dk_at dksJ3_init_0 17 rfl rfl)
theorem dJ3_init_20 : decode cJ3_init 20 = .ok (.putfield 24, 3) := dk_181 0 24 (dk_at dksJ3_init_0 20 rfl rfl)
theorem dJ3_init_23 : decode cJ3_init 23 = .ok (.aload_n 0, 1) := dk_42 (dk_at dksJ3_init_0 23 rfl rfl)
theorem dJ3_init_24 : decode cJ3_init 24 = .ok (.invokevirtual 27, 3) := dk_182 0 27 (dk_at dksJ3_init_1 0 rfl rfl)
theorem dJ3_init_27 : decode cJ3_init 27 = .ok (.pop, 1) := dk_87 (dk_at dksJ3_init_1 3 rfl rfl)
theorem dJ3_init_28 : decode cJ3_init 28 = .ok (.aload_n 0, 1) := dk_42 (dk_at dksJ3_init_1 4 rfl rfl)
theorem dJ3_init_29 : decode cJ3_init 29 = .ok (.aload_n 1, 1) := dk_43 (dk_at dksJ3_init_1 5 rfl rfl)
theorem dJ3_init_30 : decode cJ3_init 30 = .ok (.putfield 31, 3) := dk_181 0 31 (dk_at dksJ3_init_1 6 rfl rfl)
theorem dJ3_init_33 : decode cJ3_init 33 = .ok (.return_, 1) := dk_177 (dk_at dksJ3_init_1 9 rfl rfl)
abbrev cJ3_init_2 : ByteArray := prog_46_method_1_code
def yJ3_init_2 : MethodName := ⟨RJ3, "<init>", "()V"⟩
def dkwJ3_init_2_1 : List UInt8 := [182, 0, 27, 87, 177]
abbrev dktJ3_init_2_1 : List UInt8 := dkwJ3_init_2_1 ++ []
def dkwJ3_init_2_0 : List UInt8 := [42, 183, 0, 1, 42, 42, 181, 0, 7, 42, 178, 0, 13, 181, 0, 17, 42, 178, 0, 20, 181, 0, 24, 42]
abbrev dktJ3_init_2_0 : List UInt8 := dkwJ3_init_2_0 ++ dktJ3_init_2_1
theorem dksJ3_init_2_0 : cJ3_init_2.data.toList.drop 0 = dktJ3_init_2_0 := by decide +kernel
theorem dksJ3_init_2_1 : cJ3_init_2.data.toList.drop 24 = dktJ3_init_2_1 := dk_seg dksJ3_init_2_0 24 rfl rfl
theorem dJ3_init_2_0 : decode cJ3_init_2 0 = .ok (.aload_n 0, 1) := dk_42 (dk_at dksJ3_init_2_0 0 rfl rfl)
theorem dJ3_init_2_1 : decode cJ3_init_2 1 = .ok (.invokespecial 1, 3) := dk_183 0 1 (dk_at dksJ3_init_2_0 1 rfl rfl)
theorem dJ3_init_2_4 : decode cJ3_init_2 4 = .ok (.aload_n 0, 1) := dk_42 (dk_at dksJ3_init_2_0 4 rfl rfl)
theorem dJ3_init_2_5 : decode cJ3_init_2 5 = .ok (.aload_n 0, 1) := dk_42 (dk_at dksJ3_init_2_0 5 rfl rfl)
theorem dJ3_init_2_6 : decode cJ3_init_2 6 = .ok (.putfield 7, 3) := dk_181 0 7 (dk_at dksJ3_init_2_0 6 rfl rfl)
theorem dJ3_init_2_9 : decode cJ3_init_2 9 = .ok (.aload_n 0, 1) := dk_42 (dk_at dksJ3_init_2_0 9 rfl rfl)
theorem dJ3_init_2_10 : decode cJ3_init_2 10 = .ok (.getstatic 13, 3) := dk_178 0 13 (dk_at dksJ3_init_2_0 10 rfl rfl)
theorem dJ3_init_2_13 : decode cJ3_init_2 13 = .ok (.putfield 17, 3) := dk_181 0 17 (dk_at dksJ3_init_2_0 13 rfl rfl)
theorem dJ3_init_2_16 : decode cJ3_init_2 16 = .ok (.aload_n 0, 1) := dk_42 (dk_at dksJ3_init_2_0 16 rfl rfl)
theorem dJ3_init_2_17 : decode cJ3_init_2 17 = .ok (.getstatic 20, 3) := dk_178 0 20 (dk_at dksJ3_init_2_0 17 rfl rfl)
theorem dJ3_init_2_20 : decode cJ3_init_2 20 = .ok (.putfield 24, 3) := dk_181 0 24 (dk_at dksJ3_init_2_0 20 rfl rfl)
theorem dJ3_init_2_23 : decode cJ3_init_2 23 = .ok (.aload_n 0, 1) := dk_42 (dk_at dksJ3_init_2_0 23 rfl rfl)
theorem dJ3_init_2_24 : decode cJ3_init_2 24 = .ok (.invokevirtual 27, 3) := dk_182 0 27 (dk_at dksJ3_init_2_1 0 rfl rfl)
theorem dJ3_init_2_27 : decode cJ3_init_2 27 = .ok (.pop, 1) := dk_87 (dk_at dksJ3_init_2_1 3 rfl rfl)
theorem dJ3_init_2_28 : decode cJ3_init_2 28 = .ok (.return_, 1) := dk_177 (dk_at dksJ3_init_2_1 4 rfl rfl)
abbrev cJ3_init_3 : ByteArray := prog_46_method_5_code
def yJ3_init_3 : MethodName := ⟨RJ3, "<init>", "(Ljava/lang/String;Ljava/lang/Throwable;ZZ)V"⟩
def dkwJ3_init_3_2 : List UInt8 := [44, 181, 0, 7, 29, 154, 0, 8, 42, 1, 181, 0, 24, 177]
abbrev dktJ3_init_3_2 : List UInt8 := dkwJ3_init_3_2 ++ []
def dkwJ3_init_3_1 : List UInt8 := [21, 4, 153, 0, 11, 42, 182, 0, 27, 87, 167, 0, 8, 42, 1, 181, 0, 17, 42, 43, 181, 0, 31, 42]
abbrev dktJ3_init_3_1 : List UInt8 := dkwJ3_init_3_1 ++ dktJ3_init_3_2
def dkwJ3_init_3_0 : List UInt8 := [42, 183, 0, 1, 42, 42, 181, 0, 7, 42, 178, 0, 13, 181, 0, 17, 42, 178, 0, 20, 181, 0, 24]
abbrev dktJ3_init_3_0 : List UInt8 := dkwJ3_init_3_0 ++ dktJ3_init_3_1
theorem dksJ3_init_3_0 : cJ3_init_3.data.toList.drop 0 = dktJ3_init_3_0 := by decide +kernel
theorem dksJ3_init_3_1 : cJ3_init_3.data.toList.drop 23 = dktJ3_init_3_1 := dk_seg dksJ3_init_3_0 23 rfl rfl
theorem dksJ3_init_3_2 : cJ3_init_3.data.toList.drop 47 = dktJ3_init_3_2 := dk_seg dksJ3_init_3_1 24 rfl rfl
theorem dJ3_init_3_0 : decode cJ3_init_3 0 = .ok (.aload_n 0, 1) := dk_42 (dk_at dksJ3_init_3_0 0 rfl rfl)
theorem dJ3_init_3_1 : decode cJ3_init_3 1 = .ok (.invokespecial 1, 3) := dk_183 0 1 (dk_at dksJ3_init_3_0 1 rfl rfl)
theorem dJ3_init_3_4 : decode cJ3_init_3 4 = .ok (.aload_n 0, 1) := dk_42 (dk_at dksJ3_init_3_0 4 rfl rfl)
theorem dJ3_init_3_5 : decode cJ3_init_3 5 = .ok (.aload_n 0, 1) := dk_42 (dk_at dksJ3_init_3_0 5 rfl rfl)
theorem dJ3_init_3_6 : decode cJ3_init_3 6 = .ok (.putfield 7, 3) := dk_181 0 7 (dk_at dksJ3_init_3_0 6 rfl rfl)
theorem dJ3_init_3_9 : decode cJ3_init_3 9 = .ok (.aload_n 0, 1) := dk_42 (dk_at dksJ3_init_3_0 9 rfl rfl)
theorem dJ3_init_3_10 : decode cJ3_init_3 10 = .ok (.getstatic 13, 3) := dk_178 0 13 (dk_at dksJ3_init_3_0 10 rfl rfl)
theorem dJ3_init_3_13 : decode cJ3_init_3 13 = .ok (.putfield 17, 3) := dk_181 0 17 (dk_at dksJ3_init_3_0 13 rfl rfl)
theorem dJ3_init_3_16 : decode cJ3_init_3 16 = .ok (.aload_n 0, 1) := dk_42 (dk_at dksJ3_init_3_0 16 rfl rfl)
theorem dJ3_init_3_17 : decode cJ3_init_3 17 = .ok (.getstatic 20, 3) := dk_178 0 20 (dk_at dksJ3_init_3_0 17 rfl rfl)
theorem dJ3_init_3_20 : decode cJ3_init_3 20 = .ok (.putfield 24, 3) := dk_181 0 24 (dk_at dksJ3_init_3_0 20 rfl rfl)
theorem dJ3_init_3_23 : decode cJ3_init_3 23 = .ok (.iload 4, 2) := dk_21 4 (dk_at dksJ3_init_3_1 0 rfl rfl)
theorem dJ3_init_3_25 : decode cJ3_init_3 25 = .ok (.ifCond .eq 11, 3) := dk_153 0 11 (dk_at dksJ3_init_3_1 2 rfl rfl)
theorem dJ3_init_3_28 : decode cJ3_init_3 28 = .ok (.aload_n 0, 1) := dk_42 (dk_at dksJ3_init_3_1 5 rfl rfl)
theorem dJ3_init_3_29 : decode cJ3_init_3 29 = .ok (.invokevirtual 27, 3) := dk_182 0 27 (dk_at dksJ3_init_3_1 6 rfl rfl)
theorem dJ3_init_3_32 : decode cJ3_init_3 32 = .ok (.pop, 1) := dk_87 (dk_at dksJ3_init_3_1 9 rfl rfl)
theorem dJ3_init_3_33 : decode cJ3_init_3 33 = .ok (.goto 8, 3) := dk_167 0 8 (dk_at dksJ3_init_3_1 10 rfl rfl)
theorem dJ3_init_3_36 : decode cJ3_init_3 36 = .ok (.aload_n 0, 1) := dk_42 (dk_at dksJ3_init_3_1 13 rfl rfl)
theorem dJ3_init_3_37 : decode cJ3_init_3 37 = .ok (.aconst_null, 1) := dk_1 (dk_at dksJ3_init_3_1 14 rfl rfl)
theorem dJ3_init_3_38 : decode cJ3_init_3 38 = .ok (.putfield 17, 3) := dk_181 0 17 (dk_at dksJ3_init_3_1 15 rfl rfl)
theorem dJ3_init_3_41 : decode cJ3_init_3 41 = .ok (.aload_n 0, 1) := dk_42 (dk_at dksJ3_init_3_1 18 rfl rfl)
theorem dJ3_init_3_42 : decode cJ3_init_3 42 = .ok (.aload_n 1, 1) := dk_43 (dk_at dksJ3_init_3_1 19 rfl rfl)
theorem dJ3_init_3_43 : decode cJ3_init_3 43 = .ok (.putfield 31, 3) := dk_181 0 31 (dk_at dksJ3_init_3_1 20 rfl rfl)
theorem dJ3_init_3_46 : decode cJ3_init_3 46 = .ok (.aload_n 0, 1) := dk_42 (dk_at dksJ3_init_3_1 23 rfl rfl)
theorem dJ3_init_3_47 : decode cJ3_init_3 47 = .ok (.aload_n 2, 1) := dk_44 (dk_at dksJ3_init_3_2 0 rfl rfl)
theorem dJ3_init_3_48 : decode cJ3_init_3 48 = .ok (.putfield 7, 3) := dk_181 0 7 (dk_at dksJ3_init_3_2 1 rfl rfl)
theorem dJ3_init_3_51 : decode cJ3_init_3 51 = .ok (.iload_n 3, 1) := dk_29 (dk_at dksJ3_init_3_2 4 rfl rfl)
theorem dJ3_init_3_52 : decode cJ3_init_3 52 = .ok (.ifCond .ne 8, 3) := dk_154 0 8 (dk_at dksJ3_init_3_2 5 rfl rfl)
theorem dJ3_init_3_55 : decode cJ3_init_3 55 = .ok (.aload_n 0, 1) := dk_42 (dk_at dksJ3_init_3_2 8 rfl rfl)
theorem dJ3_init_3_56 : decode cJ3_init_3 56 = .ok (.aconst_null, 1) := dk_1 (dk_at dksJ3_init_3_2 9 rfl rfl)
theorem dJ3_init_3_57 : decode cJ3_init_3 57 = .ok (.putfield 24, 3) := dk_181 0 24 (dk_at dksJ3_init_3_2 10 rfl rfl)
theorem dJ3_init_3_60 : decode cJ3_init_3 60 = .ok (.return_, 1) := dk_177 (dk_at dksJ3_init_3_2 13 rfl rfl)
theorem q71 : (Jvm.Cond.initialized "java/lang/Throwable") ∈ lw_all := lw_g (lw_at lw_m1 7 rfl) rfl
theorem q406 : (Jvm.Cond.instanceMethod ({ cls := "java/lang/Throwable", name := "<init>", desc := "(Ljava/lang/String;)V" } : Jvm.MethodName)) ∈ lw_all := lw_g (lw_at lw_m2 102 rfl) rfl
theorem q407 : (Jvm.Cond.code ({ cls := "java/lang/Throwable", name := "<init>", desc := "(Ljava/lang/String;)V" } : Jvm.MethodName) prog_46_method_2_code (2 : Nat) (Option.none : Option Jvm.ClassFile.FieldType)) ∈ lw_all := lw_g (lw_at lw_m2 103 rfl) rfl
theorem q408 : (Jvm.Cond.methodLink "java/lang/Throwable" (1 : Nat) ({ cls := "java/lang/Object", name := "<init>", desc := "()V" } : Jvm.MethodName)) ∈ lw_all := lw_g (lw_at lw_m2 104 rfl) rfl
theorem q409 : (Jvm.Cond.fieldLink "java/lang/Throwable" (13 : Nat) "java/lang/Throwable" "UNASSIGNED_STACK" "[Ljava/lang/StackTraceElement;") ∈ lw_all := lw_g (lw_at lw_m2 105 rfl) rfl
theorem q410 : (Jvm.Cond.laysStatic "java/lang/Throwable" "UNASSIGNED_STACK" "[Ljava/lang/StackTraceElement;") ∈ lw_tbl := lw_at lw_m2 106 rfl
theorem q411 : (Jvm.Cond.fieldLink "java/lang/Throwable" (20 : Nat) "java/lang/Throwable" "SUPPRESSED_SENTINEL" "Ljava/util/List;") ∈ lw_all := lw_g (lw_at lw_m2 107 rfl) rfl
theorem q412 : (Jvm.Cond.laysStatic "java/lang/Throwable" "SUPPRESSED_SENTINEL" "Ljava/util/List;") ∈ lw_tbl := lw_at lw_m2 108 rfl
theorem q413 : (Jvm.Cond.methodLink "java/lang/Throwable" (27 : Nat) ({ cls := "java/lang/Throwable", name := "fillInStackTrace", desc := "()Ljava/lang/Throwable;" } : Jvm.MethodName)) ∈ lw_all := lw_g (lw_at lw_m2 109 rfl) rfl
theorem q414 : (Jvm.Cond.instanceMethod ({ cls := "java/lang/Throwable", name := "fillInStackTrace", desc := "()Ljava/lang/Throwable;" } : Jvm.MethodName)) ∈ lw_all := lw_g (lw_at lw_m2 110 rfl) rfl
theorem q415 : (Jvm.Cond.sameMethod "java/lang/Throwable" "java/lang/Throwable" "fillInStackTrace" "()Ljava/lang/Throwable;") ∈ lw_all := lw_g (lw_at lw_m2 111 rfl) rfl
theorem q430 : (Jvm.Cond.declares ({ cls := "java/lang/Throwable", name := "fillInStackTrace", desc := "()Ljava/lang/Throwable;" } : Jvm.MethodName)) ∈ lw_tbl := lw_at lw_m2 126 rfl
theorem q434 : (Jvm.Cond.codeSync ({ cls := "java/lang/Throwable", name := "fillInStackTrace", desc := "()Ljava/lang/Throwable;" } : Jvm.MethodName) prog_46_method_18_code (1 : Nat) (Option.some (Jvm.ClassFile.FieldType.object "java/lang/Throwable"))) ∈ lw_all := lw_g (lw_at lw_m2 130 rfl) rfl
theorem q435 : (Jvm.Cond.methodLink "java/lang/Throwable" (202 : Nat) ({ cls := "java/lang/Throwable", name := "fillInStackTrace", desc := "(I)Ljava/lang/Throwable;" } : Jvm.MethodName)) ∈ lw_all := lw_g (lw_at lw_m2 131 rfl) rfl
theorem q436 : (Jvm.Cond.privateMethod ({ cls := "java/lang/Throwable", name := "fillInStackTrace", desc := "(I)Ljava/lang/Throwable;" } : Jvm.MethodName)) ∈ lw_tbl := lw_at lw_m2 132 rfl
theorem q437 : (Jvm.Cond.instanceMethod ({ cls := "java/lang/Throwable", name := "fillInStackTrace", desc := "(I)Ljava/lang/Throwable;" } : Jvm.MethodName)) ∈ lw_all := lw_g (lw_at lw_m2 133 rfl) rfl
theorem q438 : (Jvm.Cond.instantiable "java/lang/Throwable" (6 : Nat)) ∈ lw_all := lw_g (lw_at lw_m2 134 rfl) rfl
theorem q439 : (Jvm.Cond.native ({ cls := "java/lang/Throwable", name := "fillInStackTrace", desc := "(I)Ljava/lang/Throwable;" } : Jvm.MethodName)) ∈ lw_all := lw_g (lw_at lw_m2 135 rfl) rfl
theorem q440 : (Jvm.Cond.fieldLink "java/lang/Throwable" (198 : Nat) "java/lang/Throwable" "backtrace" "Ljava/lang/Object;") ∈ lw_all := lw_g (lw_at lw_m2 136 rfl) rfl
theorem q441 : (Jvm.Cond.fieldLink "java/lang/Throwable" (31 : Nat) "java/lang/Throwable" "detailMessage" "Ljava/lang/String;") ∈ lw_all := lw_g (lw_at lw_m2 137 rfl) rfl
theorem q442 : (Jvm.Cond.fieldLink "java/lang/Throwable" (7 : Nat) "java/lang/Throwable" "cause" "Ljava/lang/Throwable;") ∈ lw_all := lw_g (lw_at lw_m2 138 rfl) rfl
theorem q443 : (Jvm.Cond.fieldLink "java/lang/Throwable" (17 : Nat) "java/lang/Throwable" "stackTrace" "[Ljava/lang/StackTraceElement;") ∈ lw_all := lw_g (lw_at lw_m2 139 rfl) rfl
theorem q444 : (Jvm.Cond.fieldLink "java/lang/Throwable" (24 : Nat) "java/lang/Throwable" "suppressedExceptions" "Ljava/util/List;") ∈ lw_all := lw_g (lw_at lw_m2 140 rfl) rfl
theorem q446 : (Jvm.Cond.soleField "java/lang/Throwable" "backtrace") ∈ lw_all := lw_g (lw_at lw_m2 142 rfl) rfl
theorem q448 : (Jvm.Cond.soleField "java/lang/Throwable" "detailMessage") ∈ lw_all := lw_g (lw_at lw_m2 144 rfl) rfl
theorem q450 : (Jvm.Cond.soleField "java/lang/Throwable" "cause") ∈ lw_all := lw_g (lw_at lw_m2 146 rfl) rfl
theorem q452 : (Jvm.Cond.soleField "java/lang/Throwable" "stackTrace") ∈ lw_all := lw_g (lw_at lw_m2 148 rfl) rfl
theorem q454 : (Jvm.Cond.soleField "java/lang/Throwable" "depth") ∈ lw_all := lw_g (lw_at lw_m2 150 rfl) rfl
theorem q456 : (Jvm.Cond.soleField "java/lang/Throwable" "suppressedExceptions") ∈ lw_all := lw_g (lw_at lw_m2 152 rfl) rfl
theorem q465 : (Jvm.Cond.declares ({ cls := "java/lang/Throwable", name := "<init>", desc := "()V" } : Jvm.MethodName)) ∈ lw_tbl := lw_at lw_m2 161 rfl
theorem q466 : (Jvm.Cond.declares ({ cls := "java/lang/Throwable", name := "<init>", desc := "(Ljava/lang/String;)V" } : Jvm.MethodName)) ∈ lw_tbl := lw_at lw_m2 162 rfl
theorem q468 : (Jvm.Cond.lays "java/lang/Throwable" "java/lang/Throwable" "cause" "Ljava/lang/Throwable;") ∈ lw_all := lw_g (lw_at lw_m2 164 rfl) rfl
theorem q469 : (Jvm.Cond.lays "java/lang/Throwable" "java/lang/Throwable" "stackTrace" "[Ljava/lang/StackTraceElement;") ∈ lw_all := lw_g (lw_at lw_m2 165 rfl) rfl
theorem q470 : (Jvm.Cond.lays "java/lang/Throwable" "java/lang/Throwable" "suppressedExceptions" "Ljava/util/List;") ∈ lw_all := lw_g (lw_at lw_m2 166 rfl) rfl
theorem q471 : (Jvm.Cond.lays "java/lang/Throwable" "java/lang/Throwable" "detailMessage" "Ljava/lang/String;") ∈ lw_all := lw_g (lw_at lw_m2 167 rfl) rfl
theorem q472 : (Jvm.Cond.lays "java/lang/Throwable" "java/lang/Throwable" "backtrace" "Ljava/lang/Object;") ∈ lw_all := lw_g (lw_at lw_m2 168 rfl) rfl
theorem q473 : (Jvm.Cond.fieldLink "java/lang/Throwable" (198 : Nat) "java/lang/Throwable" "backtrace" "Ljava/lang/Object;") ∈ lw_all := lw_g (lw_at lw_m2 169 rfl) rfl
theorem q474 : (Jvm.Cond.superclass "java/lang/Throwable" "java/lang/Object") ∈ lw_all := lw_g (lw_at lw_m2 170 rfl) rfl
theorem q475 : (Jvm.Cond.instanceMethod ({ cls := "java/lang/Throwable", name := "<init>", desc := "()V" } : Jvm.MethodName)) ∈ lw_all := lw_g (lw_at lw_m2 171 rfl) rfl
theorem q476 : (Jvm.Cond.code ({ cls := "java/lang/Throwable", name := "<init>", desc := "()V" } : Jvm.MethodName) prog_46_method_1_code (1 : Nat) (Option.none : Option Jvm.ClassFile.FieldType)) ∈ lw_all := lw_g (lw_at lw_m2 172 rfl) rfl
theorem q905 : (Jvm.Cond.instanceMethod ({ cls := "java/lang/Throwable", name := "<init>", desc := "(Ljava/lang/String;Ljava/lang/Throwable;ZZ)V" } : Jvm.MethodName)) ∈ lw_all := lw_g (lw_at lw_m4 121 rfl) rfl
theorem q906 : (Jvm.Cond.code ({ cls := "java/lang/Throwable", name := "<init>", desc := "(Ljava/lang/String;Ljava/lang/Throwable;ZZ)V" } : Jvm.MethodName) prog_46_method_5_code (5 : Nat) (Option.none : Option Jvm.ClassFile.FieldType)) ∈ lw_all := lw_g (lw_at lw_m4 122 rfl) rfl
theorem q2049 : (Jvm.Cond.sameMethod "java/lang/Throwable" "java/lang/Throwable" "fillInStackTrace" "(I)Ljava/lang/Throwable;") ∈ lw_all := lw_g (lw_at lw_m9 65 rfl) rfl
theorem q2081 : (Jvm.Cond.castable "java/lang/Throwable" "java/lang/Object") ∈ lw_tbl := lw_at lw_m9 97 rfl
theorem in_J3 : ∀ w ∈ wsJ30, w ∈ lw_all := lw_in wsJ30 [468, 469, 470, 471, 472] (by decide +kernel) (by decide +kernel)

/-! java/lang/Exception -/
set_option maxRecDepth 100000
def RJ4 : String := "java/lang/Exception"
abbrev cJ4_init : ByteArray := prog_34_method_2_code
def yJ4_init : MethodName := ⟨RJ4, "<init>", "(Ljava/lang/String;)V"⟩
def dkwJ4_init_0 : List UInt8 := [42, 43, 183, 0, 7, 177]
abbrev dktJ4_init_0 : List UInt8 := dkwJ4_init_0 ++ []
theorem dksJ4_init_0 : cJ4_init.data.toList.drop 0 = dktJ4_init_0 := by decide +kernel
theorem dJ4_init_0 : decode cJ4_init 0 = .ok (.aload_n 0, 1) := dk_42 (dk_at dksJ4_init_0 0 rfl rfl)
theorem dJ4_init_1 : decode cJ4_init 1 = .ok (.aload_n 1, 1) := dk_43 (dk_at dksJ4_init_0 1 rfl rfl)
theorem dJ4_init_2 : decode cJ4_init 2 = .ok (.invokespecial 7, 3) := dk_183 0 7 (dk_at dksJ4_init_0 2 rfl rfl)
theorem dJ4_init_5 : decode cJ4_init 5 = .ok (.return_, 1) := dk_177 (dk_at dksJ4_init_0 5 rfl rfl)
abbrev cJ4_init_2 : ByteArray := prog_34_method_1_code
def yJ4_init_2 : MethodName := ⟨RJ4, "<init>", "()V"⟩
theorem dJ4_init_2_0 : decode cJ4_init_2 0 = .ok (.aload_n 0, 1) := by decide +kernel
theorem dJ4_init_2_1 : decode cJ4_init_2 1 = .ok (.invokespecial 1, 3) := by decide +kernel
theorem dJ4_init_2_4 : decode cJ4_init_2 4 = .ok (.return_, 1) := by decide +kernel
abbrev cJ4_init_3 : ByteArray := prog_34_method_5_code
def yJ4_init_3 : MethodName := ⟨RJ4, "<init>", "(Ljava/lang/String;Ljava/lang/Throwable;ZZ)V"⟩
def dkwJ4_init_3_0 : List UInt8 := [42, 43, 44, 29, 21, 4, 183, 0, 16, 177]
abbrev dktJ4_init_3_0 : List UInt8 := dkwJ4_init_3_0 ++ []
theorem dksJ4_init_3_0 : cJ4_init_3.data.toList.drop 0 = dktJ4_init_3_0 := by decide +kernel
theorem dJ4_init_3_0 : decode cJ4_init_3 0 = .ok (.aload_n 0, 1) := dk_42 (dk_at dksJ4_init_3_0 0 rfl rfl)
theorem dJ4_init_3_1 : decode cJ4_init_3 1 = .ok (.aload_n 1, 1) := dk_43 (dk_at dksJ4_init_3_0 1 rfl rfl)
theorem dJ4_init_3_2 : decode cJ4_init_3 2 = .ok (.aload_n 2, 1) := dk_44 (dk_at dksJ4_init_3_0 2 rfl rfl)
theorem dJ4_init_3_3 : decode cJ4_init_3 3 = .ok (.iload_n 3, 1) := dk_29 (dk_at dksJ4_init_3_0 3 rfl rfl)
theorem dJ4_init_3_4 : decode cJ4_init_3 4 = .ok (.iload 4, 2) := dk_21 4 (dk_at dksJ4_init_3_0 4 rfl rfl)
theorem dJ4_init_3_6 : decode cJ4_init_3 6 = .ok (.invokespecial 16, 3) := dk_183 0 16 (dk_at dksJ4_init_3_0 6 rfl rfl)
theorem dJ4_init_3_9 : decode cJ4_init_3 9 = .ok (.return_, 1) := dk_177 (dk_at dksJ4_init_3_0 9 rfl rfl)
theorem q72 : (Jvm.Cond.initialized "java/lang/Exception") ∈ lw_all := lw_g (lw_at lw_m1 8 rfl) rfl
theorem q403 : (Jvm.Cond.instanceMethod ({ cls := "java/lang/Exception", name := "<init>", desc := "(Ljava/lang/String;)V" } : Jvm.MethodName)) ∈ lw_all := lw_g (lw_at lw_m2 99 rfl) rfl
theorem q404 : (Jvm.Cond.code ({ cls := "java/lang/Exception", name := "<init>", desc := "(Ljava/lang/String;)V" } : Jvm.MethodName) prog_34_method_2_code (2 : Nat) (Option.none : Option Jvm.ClassFile.FieldType)) ∈ lw_all := lw_g (lw_at lw_m2 100 rfl) rfl
theorem q405 : (Jvm.Cond.methodLink "java/lang/Exception" (7 : Nat) ({ cls := "java/lang/Throwable", name := "<init>", desc := "(Ljava/lang/String;)V" } : Jvm.MethodName)) ∈ lw_all := lw_g (lw_at lw_m2 101 rfl) rfl
theorem q433 : (Jvm.Cond.superclass "java/lang/Exception" "java/lang/Throwable") ∈ lw_all := lw_g (lw_at lw_m2 129 rfl) rfl
theorem q463 : (Jvm.Cond.declares ({ cls := "java/lang/Exception", name := "<init>", desc := "()V" } : Jvm.MethodName)) ∈ lw_tbl := lw_at lw_m2 159 rfl
theorem q464 : (Jvm.Cond.declares ({ cls := "java/lang/Exception", name := "<init>", desc := "(Ljava/lang/String;)V" } : Jvm.MethodName)) ∈ lw_tbl := lw_at lw_m2 160 rfl
theorem q555 : (Jvm.Cond.instanceMethod ({ cls := "java/lang/Exception", name := "<init>", desc := "()V" } : Jvm.MethodName)) ∈ lw_all := lw_g (lw_at lw_m3 11 rfl) rfl
theorem q556 : (Jvm.Cond.code ({ cls := "java/lang/Exception", name := "<init>", desc := "()V" } : Jvm.MethodName) prog_34_method_1_code (1 : Nat) (Option.none : Option Jvm.ClassFile.FieldType)) ∈ lw_all := lw_g (lw_at lw_m3 12 rfl) rfl
theorem q557 : (Jvm.Cond.methodLink "java/lang/Exception" (1 : Nat) ({ cls := "java/lang/Throwable", name := "<init>", desc := "()V" } : Jvm.MethodName)) ∈ lw_all := lw_g (lw_at lw_m3 13 rfl) rfl
theorem q902 : (Jvm.Cond.instanceMethod ({ cls := "java/lang/Exception", name := "<init>", desc := "(Ljava/lang/String;Ljava/lang/Throwable;ZZ)V" } : Jvm.MethodName)) ∈ lw_all := lw_g (lw_at lw_m4 118 rfl) rfl
theorem q903 : (Jvm.Cond.code ({ cls := "java/lang/Exception", name := "<init>", desc := "(Ljava/lang/String;Ljava/lang/Throwable;ZZ)V" } : Jvm.MethodName) prog_34_method_5_code (5 : Nat) (Option.none : Option Jvm.ClassFile.FieldType)) ∈ lw_all := lw_g (lw_at lw_m4 119 rfl) rfl
theorem q904 : (Jvm.Cond.methodLink "java/lang/Exception" (16 : Nat) ({ cls := "java/lang/Throwable", name := "<init>", desc := "(Ljava/lang/String;Ljava/lang/Throwable;ZZ)V" } : Jvm.MethodName)) ∈ lw_all := lw_g (lw_at lw_m4 120 rfl) rfl

/-! java/lang/RuntimeException -/
set_option maxRecDepth 100000
def RJ5 : String := "java/lang/RuntimeException"
abbrev cJ5_init : ByteArray := prog_42_method_2_code
def yJ5_init : MethodName := ⟨RJ5, "<init>", "(Ljava/lang/String;)V"⟩
def dkwJ5_init_0 : List UInt8 := [42, 43, 183, 0, 7, 177]
abbrev dktJ5_init_0 : List UInt8 := dkwJ5_init_0 ++ []
theorem dksJ5_init_0 : cJ5_init.data.toList.drop 0 = dktJ5_init_0 := by decide +kernel
theorem dJ5_init_0 : decode cJ5_init 0 = .ok (.aload_n 0, 1) := dk_42 (dk_at dksJ5_init_0 0 rfl rfl)
theorem dJ5_init_1 : decode cJ5_init 1 = .ok (.aload_n 1, 1) := dk_43 (dk_at dksJ5_init_0 1 rfl rfl)
theorem dJ5_init_2 : decode cJ5_init 2 = .ok (.invokespecial 7, 3) := dk_183 0 7 (dk_at dksJ5_init_0 2 rfl rfl)
theorem dJ5_init_5 : decode cJ5_init 5 = .ok (.return_, 1) := dk_177 (dk_at dksJ5_init_0 5 rfl rfl)
abbrev cJ5_init_2 : ByteArray := prog_42_method_1_code
def yJ5_init_2 : MethodName := ⟨RJ5, "<init>", "()V"⟩
theorem dJ5_init_2_0 : decode cJ5_init_2 0 = .ok (.aload_n 0, 1) := by decide +kernel
theorem dJ5_init_2_1 : decode cJ5_init_2 1 = .ok (.invokespecial 1, 3) := by decide +kernel
theorem dJ5_init_2_4 : decode cJ5_init_2 4 = .ok (.return_, 1) := by decide +kernel
theorem q73 : (Jvm.Cond.initialized "java/lang/RuntimeException") ∈ lw_all := lw_g (lw_at lw_m1 9 rfl) rfl
theorem q400 : (Jvm.Cond.instanceMethod ({ cls := "java/lang/RuntimeException", name := "<init>", desc := "(Ljava/lang/String;)V" } : Jvm.MethodName)) ∈ lw_all := lw_g (lw_at lw_m2 96 rfl) rfl
theorem q401 : (Jvm.Cond.code ({ cls := "java/lang/RuntimeException", name := "<init>", desc := "(Ljava/lang/String;)V" } : Jvm.MethodName) prog_42_method_2_code (2 : Nat) (Option.none : Option Jvm.ClassFile.FieldType)) ∈ lw_all := lw_g (lw_at lw_m2 97 rfl) rfl
theorem q402 : (Jvm.Cond.methodLink "java/lang/RuntimeException" (7 : Nat) ({ cls := "java/lang/Exception", name := "<init>", desc := "(Ljava/lang/String;)V" } : Jvm.MethodName)) ∈ lw_all := lw_g (lw_at lw_m2 98 rfl) rfl
theorem q429 : (Jvm.Cond.sameMethod "java/lang/RuntimeException" "java/lang/Throwable" "fillInStackTrace" "()Ljava/lang/Throwable;") ∈ lw_all := lw_g (lw_at lw_m2 125 rfl) rfl
theorem q432 : (Jvm.Cond.superclass "java/lang/RuntimeException" "java/lang/Exception") ∈ lw_all := lw_g (lw_at lw_m2 128 rfl) rfl
theorem q461 : (Jvm.Cond.declares ({ cls := "java/lang/RuntimeException", name := "<init>", desc := "()V" } : Jvm.MethodName)) ∈ lw_tbl := lw_at lw_m2 157 rfl
theorem q462 : (Jvm.Cond.declares ({ cls := "java/lang/RuntimeException", name := "<init>", desc := "(Ljava/lang/String;)V" } : Jvm.MethodName)) ∈ lw_tbl := lw_at lw_m2 158 rfl
theorem q552 : (Jvm.Cond.instanceMethod ({ cls := "java/lang/RuntimeException", name := "<init>", desc := "()V" } : Jvm.MethodName)) ∈ lw_all := lw_g (lw_at lw_m3 8 rfl) rfl
theorem q553 : (Jvm.Cond.code ({ cls := "java/lang/RuntimeException", name := "<init>", desc := "()V" } : Jvm.MethodName) prog_42_method_1_code (1 : Nat) (Option.none : Option Jvm.ClassFile.FieldType)) ∈ lw_all := lw_g (lw_at lw_m3 9 rfl) rfl
theorem q554 : (Jvm.Cond.methodLink "java/lang/RuntimeException" (1 : Nat) ({ cls := "java/lang/Exception", name := "<init>", desc := "()V" } : Jvm.MethodName)) ∈ lw_all := lw_g (lw_at lw_m3 10 rfl) rfl
theorem q572 : (Jvm.Cond.castable "java/lang/RuntimeException" "java/lang/Throwable") ∈ lw_tbl := lw_at lw_m3 28 rfl

/-! java/lang/IndexOutOfBoundsException -/
set_option maxRecDepth 100000
def RJ6 : String := "java/lang/IndexOutOfBoundsException"
abbrev cJ6_init : ByteArray := prog_36_method_2_code
def yJ6_init : MethodName := ⟨RJ6, "<init>", "(Ljava/lang/String;)V"⟩
def dkwJ6_init_0 : List UInt8 := [42, 43, 183, 0, 7, 177]
abbrev dktJ6_init_0 : List UInt8 := dkwJ6_init_0 ++ []
theorem dksJ6_init_0 : cJ6_init.data.toList.drop 0 = dktJ6_init_0 := by decide +kernel
theorem dJ6_init_0 : decode cJ6_init 0 = .ok (.aload_n 0, 1) := dk_42 (dk_at dksJ6_init_0 0 rfl rfl)
theorem dJ6_init_1 : decode cJ6_init 1 = .ok (.aload_n 1, 1) := dk_43 (dk_at dksJ6_init_0 1 rfl rfl)
theorem dJ6_init_2 : decode cJ6_init 2 = .ok (.invokespecial 7, 3) := dk_183 0 7 (dk_at dksJ6_init_0 2 rfl rfl)
theorem dJ6_init_5 : decode cJ6_init 5 = .ok (.return_, 1) := dk_177 (dk_at dksJ6_init_0 5 rfl rfl)
theorem q74 : (Jvm.Cond.initialized "java/lang/IndexOutOfBoundsException") ∈ lw_all := lw_g (lw_at lw_m1 10 rfl) rfl
theorem q397 : (Jvm.Cond.instanceMethod ({ cls := "java/lang/IndexOutOfBoundsException", name := "<init>", desc := "(Ljava/lang/String;)V" } : Jvm.MethodName)) ∈ lw_all := lw_g (lw_at lw_m2 93 rfl) rfl
theorem q398 : (Jvm.Cond.code ({ cls := "java/lang/IndexOutOfBoundsException", name := "<init>", desc := "(Ljava/lang/String;)V" } : Jvm.MethodName) prog_36_method_2_code (2 : Nat) (Option.none : Option Jvm.ClassFile.FieldType)) ∈ lw_all := lw_g (lw_at lw_m2 94 rfl) rfl
theorem q399 : (Jvm.Cond.methodLink "java/lang/IndexOutOfBoundsException" (7 : Nat) ({ cls := "java/lang/RuntimeException", name := "<init>", desc := "(Ljava/lang/String;)V" } : Jvm.MethodName)) ∈ lw_all := lw_g (lw_at lw_m2 95 rfl) rfl
theorem q459 : (Jvm.Cond.declares ({ cls := "java/lang/IndexOutOfBoundsException", name := "<init>", desc := "()V" } : Jvm.MethodName)) ∈ lw_tbl := lw_at lw_m2 155 rfl
theorem q460 : (Jvm.Cond.declares ({ cls := "java/lang/IndexOutOfBoundsException", name := "<init>", desc := "(Ljava/lang/String;)V" } : Jvm.MethodName)) ∈ lw_tbl := lw_at lw_m2 156 rfl

/-! java/lang/ArrayIndexOutOfBoundsException -/
set_option maxRecDepth 100000
def RJ7 : String := "java/lang/ArrayIndexOutOfBoundsException"
def TJ7 : u_T := fun k => match k with
  | 0 => ("java/lang/Throwable", "backtrace", "Ljava/lang/Object;", false)
  | 1 => ("java/lang/Throwable", "detailMessage", "Ljava/lang/String;", false)
  | 2 => ("java/lang/Throwable", "cause", "Ljava/lang/Throwable;", false)
  | 3 => ("java/lang/Throwable", "stackTrace", "[Ljava/lang/StackTraceElement;", false)
  | 4 => ("java/lang/Throwable", "depth", "I", false)
  | _ => ("java/lang/Throwable", "suppressedExceptions", "Ljava/util/List;", false)
def tyJ7 : Nat → FieldType := fun k => match k with
  | 0 => .object "java/lang/Object"
  | 1 => .object "java/lang/String"
  | 2 => .object "java/lang/Throwable"
  | 3 => .array (.object "java/lang/StackTraceElement")
  | 4 => .int
  | _ => .object "java/util/List"
abbrev wsJ70 : List Cond := u_ws RJ7 TJ7 6
theorem nmJ7 : ∀ a, a < 6 → ∀ b, b < 6 → a ≠ b → (TJ7 a).2.1 ≠ (TJ7 b).2.1 := by decide +kernel
theorem tyJ7_ok : ∀ k, k < 6 → parseFieldDescriptor (TJ7 k).2.2.1 = some (tyJ7 k) := by decide +kernel
abbrev cJ7_init : ByteArray := prog_30_method_2_code
def yJ7_init : MethodName := ⟨RJ7, "<init>", "(Ljava/lang/String;)V"⟩
def dkwJ7_init_0 : List UInt8 := [42, 43, 183, 0, 7, 177]
abbrev dktJ7_init_0 : List UInt8 := dkwJ7_init_0 ++ []
theorem dksJ7_init_0 : cJ7_init.data.toList.drop 0 = dktJ7_init_0 := by decide +kernel
theorem dJ7_init_0 : decode cJ7_init 0 = .ok (.aload_n 0, 1) := dk_42 (dk_at dksJ7_init_0 0 rfl rfl)
theorem dJ7_init_1 : decode cJ7_init 1 = .ok (.aload_n 1, 1) := dk_43 (dk_at dksJ7_init_0 1 rfl rfl)
theorem dJ7_init_2 : decode cJ7_init 2 = .ok (.invokespecial 7, 3) := dk_183 0 7 (dk_at dksJ7_init_0 2 rfl rfl)
theorem dJ7_init_5 : decode cJ7_init 5 = .ok (.return_, 1) := dk_177 (dk_at dksJ7_init_0 5 rfl rfl)
theorem q75 : (Jvm.Cond.initialized "java/lang/ArrayIndexOutOfBoundsException") ∈ lw_all := lw_g (lw_at lw_m1 11 rfl) rfl
theorem q393 : (Jvm.Cond.instantiable "java/lang/ArrayIndexOutOfBoundsException" (6 : Nat)) ∈ lw_all := lw_g (lw_at lw_m2 89 rfl) rfl
theorem q394 : (Jvm.Cond.instanceMethod ({ cls := "java/lang/ArrayIndexOutOfBoundsException", name := "<init>", desc := "(Ljava/lang/String;)V" } : Jvm.MethodName)) ∈ lw_all := lw_g (lw_at lw_m2 90 rfl) rfl
theorem q395 : (Jvm.Cond.code ({ cls := "java/lang/ArrayIndexOutOfBoundsException", name := "<init>", desc := "(Ljava/lang/String;)V" } : Jvm.MethodName) prog_30_method_2_code (2 : Nat) (Option.none : Option Jvm.ClassFile.FieldType)) ∈ lw_all := lw_g (lw_at lw_m2 91 rfl) rfl
theorem q396 : (Jvm.Cond.methodLink "java/lang/ArrayIndexOutOfBoundsException" (7 : Nat) ({ cls := "java/lang/IndexOutOfBoundsException", name := "<init>", desc := "(Ljava/lang/String;)V" } : Jvm.MethodName)) ∈ lw_all := lw_g (lw_at lw_m2 92 rfl) rfl
theorem q418 : (Jvm.Cond.selects "java/lang/ArrayIndexOutOfBoundsException" ({ cls := "java/lang/Throwable", name := "fillInStackTrace", desc := "()Ljava/lang/Throwable;" } : Jvm.MethodName) ({ cls := "java/lang/Throwable", name := "fillInStackTrace", desc := "()Ljava/lang/Throwable;" } : Jvm.MethodName)) ∈ lw_all := lw_g (lw_at lw_m2 114 rfl) rfl
theorem q445 : (Jvm.Cond.lays "java/lang/ArrayIndexOutOfBoundsException" "java/lang/Throwable" "backtrace" "Ljava/lang/Object;") ∈ lw_all := lw_g (lw_at lw_m2 141 rfl) rfl
theorem q447 : (Jvm.Cond.lays "java/lang/ArrayIndexOutOfBoundsException" "java/lang/Throwable" "detailMessage" "Ljava/lang/String;") ∈ lw_all := lw_g (lw_at lw_m2 143 rfl) rfl
theorem q449 : (Jvm.Cond.lays "java/lang/ArrayIndexOutOfBoundsException" "java/lang/Throwable" "cause" "Ljava/lang/Throwable;") ∈ lw_all := lw_g (lw_at lw_m2 145 rfl) rfl
theorem q451 : (Jvm.Cond.lays "java/lang/ArrayIndexOutOfBoundsException" "java/lang/Throwable" "stackTrace" "[Ljava/lang/StackTraceElement;") ∈ lw_all := lw_g (lw_at lw_m2 147 rfl) rfl
theorem q453 : (Jvm.Cond.lays "java/lang/ArrayIndexOutOfBoundsException" "java/lang/Throwable" "depth" "I") ∈ lw_all := lw_g (lw_at lw_m2 149 rfl) rfl
theorem q455 : (Jvm.Cond.lays "java/lang/ArrayIndexOutOfBoundsException" "java/lang/Throwable" "suppressedExceptions" "Ljava/util/List;") ∈ lw_all := lw_g (lw_at lw_m2 151 rfl) rfl
theorem q457 : (Jvm.Cond.superclass "java/lang/ArrayIndexOutOfBoundsException" "java/lang/IndexOutOfBoundsException") ∈ lw_all := lw_g (lw_at lw_m2 153 rfl) rfl
theorem q458 : (Jvm.Cond.castable "java/lang/ArrayIndexOutOfBoundsException" "java/lang/ArrayIndexOutOfBoundsException") ∈ lw_tbl := lw_at lw_m2 154 rfl
theorem q467 : (Jvm.Cond.selects "java/lang/ArrayIndexOutOfBoundsException" ({ cls := "java/lang/Throwable", name := "fillInStackTrace", desc := "(I)Ljava/lang/Throwable;" } : Jvm.MethodName) ({ cls := "java/lang/Throwable", name := "fillInStackTrace", desc := "(I)Ljava/lang/Throwable;" } : Jvm.MethodName)) ∈ lw_all := lw_g (lw_at lw_m2 163 rfl) rfl
theorem q1351 : (Jvm.Cond.selects "java/lang/ArrayIndexOutOfBoundsException" ({ cls := "java/lang/Object", name := "getClass", desc := "()Ljava/lang/Class;" } : Jvm.MethodName) ({ cls := "java/lang/Object", name := "getClass", desc := "()Ljava/lang/Class;" } : Jvm.MethodName)) ∈ lw_all := lw_g (lw_at lw_m6 87 rfl) rfl
theorem q2059 : (Jvm.Cond.castable "java/lang/ArrayIndexOutOfBoundsException" "java/lang/Object") ∈ lw_tbl := lw_at lw_m9 75 rfl
theorem in_J7 : ∀ w ∈ wsJ70, w ∈ lw_all := lw_in wsJ70 [445, 447, 449, 451, 453, 455] (by decide +kernel) (by decide +kernel)

/-! java/lang/String -/
set_option maxRecDepth 100000
def RJ8 : String := "java/lang/String"
def TJ8 : u_T := fun k => match k with
  | 0 => ("java/lang/String", "value", "[B", true)
  | _ => ("java/lang/String", "coder", "B", true)
def tyJ8 : Nat → FieldType := fun k => match k with
  | 0 => .array .byte
  | _ => .byte
abbrev wsJ80 : List Cond := u_ws RJ8 TJ8 2
theorem nmJ8 : ∀ a, a < 2 → ∀ b, b < 2 → a ≠ b → (TJ8 a).2.1 ≠ (TJ8 b).2.1 := by decide +kernel
theorem tyJ8_ok : ∀ k, k < 2 → parseFieldDescriptor (TJ8 k).2.2.1 = some (tyJ8 k) := by decide +kernel
theorem q76 : (Jvm.Cond.initialized "java/lang/String") ∈ lw_all := lw_g (lw_at lw_m1 12 rfl) rfl
theorem q477 : (Jvm.Cond.instantiable "java/lang/String" (4 : Nat)) ∈ lw_all := lw_g (lw_at lw_m2 173 rfl) rfl
theorem q479 : (Jvm.Cond.laysFinal "java/lang/String" "java/lang/String" "value" "[B") ∈ lw_all := lw_g (lw_at lw_m2 175 rfl) rfl
theorem q480 : (Jvm.Cond.soleField "java/lang/String" "value") ∈ lw_all := lw_g (lw_at lw_m2 176 rfl) rfl
theorem q481 : (Jvm.Cond.laysFinal "java/lang/String" "java/lang/String" "coder" "B") ∈ lw_all := lw_g (lw_at lw_m2 177 rfl) rfl
theorem q482 : (Jvm.Cond.soleField "java/lang/String" "coder") ∈ lw_all := lw_g (lw_at lw_m2 178 rfl) rfl
theorem q2082 : (Jvm.Cond.castable "java/lang/String" "java/lang/Object") ∈ lw_tbl := lw_at lw_m9 98 rfl
theorem in_J8 : ∀ w ∈ wsJ80, w ∈ lw_all := lw_in wsJ80 [479, 481] (by decide +kernel) (by decide +kernel)

/-! java/lang/NegativeArraySizeException -/
set_option maxRecDepth 100000
def RJ9 : String := "java/lang/NegativeArraySizeException"
def TJ9 : u_T := fun k => match k with
  | 0 => ("java/lang/Throwable", "backtrace", "Ljava/lang/Object;", false)
  | 1 => ("java/lang/Throwable", "detailMessage", "Ljava/lang/String;", false)
  | 2 => ("java/lang/Throwable", "cause", "Ljava/lang/Throwable;", false)
  | 3 => ("java/lang/Throwable", "stackTrace", "[Ljava/lang/StackTraceElement;", false)
  | 4 => ("java/lang/Throwable", "depth", "I", false)
  | _ => ("java/lang/Throwable", "suppressedExceptions", "Ljava/util/List;", false)
def tyJ9 : Nat → FieldType := fun k => match k with
  | 0 => .object "java/lang/Object"
  | 1 => .object "java/lang/String"
  | 2 => .object "java/lang/Throwable"
  | 3 => .array (.object "java/lang/StackTraceElement")
  | 4 => .int
  | _ => .object "java/util/List"
abbrev wsJ90 : List Cond := u_ws RJ9 TJ9 6
theorem nmJ9 : ∀ a, a < 6 → ∀ b, b < 6 → a ≠ b → (TJ9 a).2.1 ≠ (TJ9 b).2.1 := by decide +kernel
theorem tyJ9_ok : ∀ k, k < 6 → parseFieldDescriptor (TJ9 k).2.2.1 = some (tyJ9 k) := by decide +kernel
abbrev cJ9_init : ByteArray := prog_39_method_2_code
def yJ9_init : MethodName := ⟨RJ9, "<init>", "(Ljava/lang/String;)V"⟩
def dkwJ9_init_0 : List UInt8 := [42, 43, 183, 0, 7, 177]
abbrev dktJ9_init_0 : List UInt8 := dkwJ9_init_0 ++ []
theorem dksJ9_init_0 : cJ9_init.data.toList.drop 0 = dktJ9_init_0 := by decide +kernel
theorem dJ9_init_0 : decode cJ9_init 0 = .ok (.aload_n 0, 1) := dk_42 (dk_at dksJ9_init_0 0 rfl rfl)
theorem dJ9_init_1 : decode cJ9_init 1 = .ok (.aload_n 1, 1) := dk_43 (dk_at dksJ9_init_0 1 rfl rfl)
theorem dJ9_init_2 : decode cJ9_init 2 = .ok (.invokespecial 7, 3) := dk_183 0 7 (dk_at dksJ9_init_0 2 rfl rfl)
theorem dJ9_init_5 : decode cJ9_init 5 = .ok (.return_, 1) := dk_177 (dk_at dksJ9_init_0 5 rfl rfl)
theorem q77 : (Jvm.Cond.initialized "java/lang/NegativeArraySizeException") ∈ lw_all := lw_g (lw_at lw_m1 13 rfl) rfl
theorem q419 : (Jvm.Cond.selects "java/lang/NegativeArraySizeException" ({ cls := "java/lang/Throwable", name := "fillInStackTrace", desc := "()Ljava/lang/Throwable;" } : Jvm.MethodName) ({ cls := "java/lang/Throwable", name := "fillInStackTrace", desc := "()Ljava/lang/Throwable;" } : Jvm.MethodName)) ∈ lw_all := lw_g (lw_at lw_m2 115 rfl) rfl
theorem q484 : (Jvm.Cond.instantiable "java/lang/NegativeArraySizeException" (6 : Nat)) ∈ lw_all := lw_g (lw_at lw_m2 180 rfl) rfl
theorem q485 : (Jvm.Cond.instanceMethod ({ cls := "java/lang/NegativeArraySizeException", name := "<init>", desc := "(Ljava/lang/String;)V" } : Jvm.MethodName)) ∈ lw_all := lw_g (lw_at lw_m2 181 rfl) rfl
theorem q486 : (Jvm.Cond.code ({ cls := "java/lang/NegativeArraySizeException", name := "<init>", desc := "(Ljava/lang/String;)V" } : Jvm.MethodName) prog_39_method_2_code (2 : Nat) (Option.none : Option Jvm.ClassFile.FieldType)) ∈ lw_all := lw_g (lw_at lw_m2 182 rfl) rfl
theorem q487 : (Jvm.Cond.methodLink "java/lang/NegativeArraySizeException" (7 : Nat) ({ cls := "java/lang/RuntimeException", name := "<init>", desc := "(Ljava/lang/String;)V" } : Jvm.MethodName)) ∈ lw_all := lw_g (lw_at lw_m2 183 rfl) rfl
theorem q488 : (Jvm.Cond.lays "java/lang/NegativeArraySizeException" "java/lang/Throwable" "backtrace" "Ljava/lang/Object;") ∈ lw_all := lw_g (lw_at lw_m2 184 rfl) rfl
theorem q489 : (Jvm.Cond.lays "java/lang/NegativeArraySizeException" "java/lang/Throwable" "detailMessage" "Ljava/lang/String;") ∈ lw_all := lw_g (lw_at lw_m2 185 rfl) rfl
theorem q490 : (Jvm.Cond.lays "java/lang/NegativeArraySizeException" "java/lang/Throwable" "cause" "Ljava/lang/Throwable;") ∈ lw_all := lw_g (lw_at lw_m2 186 rfl) rfl
theorem q491 : (Jvm.Cond.lays "java/lang/NegativeArraySizeException" "java/lang/Throwable" "stackTrace" "[Ljava/lang/StackTraceElement;") ∈ lw_all := lw_g (lw_at lw_m2 187 rfl) rfl
theorem q492 : (Jvm.Cond.lays "java/lang/NegativeArraySizeException" "java/lang/Throwable" "depth" "I") ∈ lw_all := lw_g (lw_at lw_m2 188 rfl) rfl
theorem q493 : (Jvm.Cond.lays "java/lang/NegativeArraySizeException" "java/lang/Throwable" "suppressedExceptions" "Ljava/util/List;") ∈ lw_all := lw_g (lw_at lw_m2 189 rfl) rfl
theorem q494 : (Jvm.Cond.superclass "java/lang/NegativeArraySizeException" "java/lang/RuntimeException") ∈ lw_all := lw_g (lw_at lw_m2 190 rfl) rfl
theorem q495 : (Jvm.Cond.castable "java/lang/NegativeArraySizeException" "java/lang/NegativeArraySizeException") ∈ lw_tbl := lw_at lw_m2 191 rfl
theorem q496 : (Jvm.Cond.selects "java/lang/NegativeArraySizeException" ({ cls := "java/lang/Throwable", name := "fillInStackTrace", desc := "(I)Ljava/lang/Throwable;" } : Jvm.MethodName) ({ cls := "java/lang/Throwable", name := "fillInStackTrace", desc := "(I)Ljava/lang/Throwable;" } : Jvm.MethodName)) ∈ lw_all := lw_g (lw_at lw_m2 192 rfl) rfl
theorem q1352 : (Jvm.Cond.selects "java/lang/NegativeArraySizeException" ({ cls := "java/lang/Object", name := "getClass", desc := "()Ljava/lang/Class;" } : Jvm.MethodName) ({ cls := "java/lang/Object", name := "getClass", desc := "()Ljava/lang/Class;" } : Jvm.MethodName)) ∈ lw_all := lw_g (lw_at lw_m6 88 rfl) rfl
theorem q2060 : (Jvm.Cond.castable "java/lang/NegativeArraySizeException" "java/lang/Object") ∈ lw_tbl := lw_at lw_m9 76 rfl
theorem in_J9 : ∀ w ∈ wsJ90, w ∈ lw_all := lw_in wsJ90 [488, 489, 490, 491, 492, 493] (by decide +kernel) (by decide +kernel)

/-! RoundingAuditor$Ledger -/
set_option maxRecDepth 100000
def RX4 : String := "RoundingAuditor$Ledger"
abbrev cX4_init : ByteArray := prog_16_method_1_code
def yX4_init : MethodName := ⟨RX4, "<init>", "(I)V"⟩
def dkwX4_init_1 : List UInt8 := [181, 0, 16, 177]
abbrev dktX4_init_1 : List UInt8 := dkwX4_init_1 ++ []
def dkwX4_init_0 : List UInt8 := [42, 183, 0, 1, 42, 27, 188, 8, 181, 0, 7, 42, 27, 188, 8, 181, 0, 13, 42, 27, 188, 8]
abbrev dktX4_init_0 : List UInt8 := dkwX4_init_0 ++ dktX4_init_1
theorem dksX4_init_0 : cX4_init.data.toList.drop 0 = dktX4_init_0 := by decide +kernel
theorem dksX4_init_1 : cX4_init.data.toList.drop 22 = dktX4_init_1 := dk_seg dksX4_init_0 22 rfl rfl
theorem dX4_init_0 : decode cX4_init 0 = .ok (.aload_n 0, 1) := dk_42 (dk_at dksX4_init_0 0 rfl rfl)
theorem dX4_init_1 : decode cX4_init 1 = .ok (.invokespecial 1, 3) := dk_183 0 1 (dk_at dksX4_init_0 1 rfl rfl)
theorem dX4_init_4 : decode cX4_init 4 = .ok (.aload_n 0, 1) := dk_42 (dk_at dksX4_init_0 4 rfl rfl)
theorem dX4_init_5 : decode cX4_init 5 = .ok (.iload_n 1, 1) := dk_27 (dk_at dksX4_init_0 5 rfl rfl)
theorem dX4_init_6 : decode cX4_init 6 = .ok (.newarray .byte, 2) := dk_188_8 (dk_at dksX4_init_0 6 rfl rfl)
theorem dX4_init_8 : decode cX4_init 8 = .ok (.putfield 7, 3) := dk_181 0 7 (dk_at dksX4_init_0 8 rfl rfl)
theorem dX4_init_11 : decode cX4_init 11 = .ok (.aload_n 0, 1) := dk_42 (dk_at dksX4_init_0 11 rfl rfl)
theorem dX4_init_12 : decode cX4_init 12 = .ok (.iload_n 1, 1) := dk_27 (dk_at dksX4_init_0 12 rfl rfl)
theorem dX4_init_13 : decode cX4_init 13 = .ok (.newarray .byte, 2) := dk_188_8 (dk_at dksX4_init_0 13 rfl rfl)
theorem dX4_init_15 : decode cX4_init 15 = .ok (.putfield 13, 3) := dk_181 0 13 (dk_at dksX4_init_0 15 rfl rfl)
theorem dX4_init_18 : decode cX4_init 18 = .ok (.aload_n 0, 1) := dk_42 (dk_at dksX4_init_0 18 rfl rfl)
theorem dX4_init_19 : decode cX4_init 19 = .ok (.iload_n 1, 1) := dk_27 (dk_at dksX4_init_0 19 rfl rfl)
theorem dX4_init_20 : decode cX4_init 20 = .ok (.newarray .byte, 2) := dk_188_8 (dk_at dksX4_init_0 20 rfl rfl)
theorem dX4_init_22 : decode cX4_init 22 = .ok (.putfield 16, 3) := dk_181 0 16 (dk_at dksX4_init_1 0 rfl rfl)
theorem dX4_init_25 : decode cX4_init 25 = .ok (.return_, 1) := dk_177 (dk_at dksX4_init_1 3 rfl rfl)
abbrev cX4_book : ByteArray := prog_16_method_3_code
def yX4_book : MethodName := ⟨RX4, "book", "(III)V"⟩
def dkwX4_book_0 : List UInt8 := [42, 180, 0, 7, 27, 28, 145, 84, 42, 180, 0, 13, 27, 29, 145, 84, 177]
abbrev dktX4_book_0 : List UInt8 := dkwX4_book_0 ++ []
theorem dksX4_book_0 : cX4_book.data.toList.drop 0 = dktX4_book_0 := by decide +kernel
theorem dX4_book_0 : decode cX4_book 0 = .ok (.aload_n 0, 1) := dk_42 (dk_at dksX4_book_0 0 rfl rfl)
theorem dX4_book_1 : decode cX4_book 1 = .ok (.getfield 7, 3) := dk_180 0 7 (dk_at dksX4_book_0 1 rfl rfl)
theorem dX4_book_4 : decode cX4_book 4 = .ok (.iload_n 1, 1) := dk_27 (dk_at dksX4_book_0 4 rfl rfl)
theorem dX4_book_5 : decode cX4_book 5 = .ok (.iload_n 2, 1) := dk_28 (dk_at dksX4_book_0 5 rfl rfl)
theorem dX4_book_6 : decode cX4_book 6 = .ok (.i2b, 1) := dk_145 (dk_at dksX4_book_0 6 rfl rfl)
theorem dX4_book_7 : decode cX4_book 7 = .ok (.bastore, 1) := dk_84 (dk_at dksX4_book_0 7 rfl rfl)
theorem dX4_book_8 : decode cX4_book 8 = .ok (.aload_n 0, 1) := dk_42 (dk_at dksX4_book_0 8 rfl rfl)
theorem dX4_book_9 : decode cX4_book 9 = .ok (.getfield 13, 3) := dk_180 0 13 (dk_at dksX4_book_0 9 rfl rfl)
theorem dX4_book_12 : decode cX4_book 12 = .ok (.iload_n 1, 1) := dk_27 (dk_at dksX4_book_0 12 rfl rfl)
theorem dX4_book_13 : decode cX4_book 13 = .ok (.iload_n 3, 1) := dk_29 (dk_at dksX4_book_0 13 rfl rfl)
theorem dX4_book_14 : decode cX4_book 14 = .ok (.i2b, 1) := dk_145 (dk_at dksX4_book_0 14 rfl rfl)
theorem dX4_book_15 : decode cX4_book 15 = .ok (.bastore, 1) := dk_84 (dk_at dksX4_book_0 15 rfl rfl)
theorem dX4_book_16 : decode cX4_book 16 = .ok (.return_, 1) := dk_177 (dk_at dksX4_book_0 16 rfl rfl)
abbrev cX4_account : ByteArray := prog_16_method_4_code
def yX4_account : MethodName := ⟨RX4, "account", "(I)I"⟩
def dkwX4_account_0 : List UInt8 := [42, 180, 0, 7, 27, 51, 172]
abbrev dktX4_account_0 : List UInt8 := dkwX4_account_0 ++ []
theorem dksX4_account_0 : cX4_account.data.toList.drop 0 = dktX4_account_0 := by decide +kernel
theorem dX4_account_0 : decode cX4_account 0 = .ok (.aload_n 0, 1) := dk_42 (dk_at dksX4_account_0 0 rfl rfl)
theorem dX4_account_1 : decode cX4_account 1 = .ok (.getfield 7, 3) := dk_180 0 7 (dk_at dksX4_account_0 1 rfl rfl)
theorem dX4_account_4 : decode cX4_account 4 = .ok (.iload_n 1, 1) := dk_27 (dk_at dksX4_account_0 4 rfl rfl)
theorem dX4_account_5 : decode cX4_account 5 = .ok (.baload, 1) := dk_51 (dk_at dksX4_account_0 5 rfl rfl)
theorem dX4_account_6 : decode cX4_account 6 = .ok (.ireturn, 1) := dk_172 (dk_at dksX4_account_0 6 rfl rfl)
abbrev cX4_day : ByteArray := prog_16_method_5_code
def yX4_day : MethodName := ⟨RX4, "day", "(I)I"⟩
def dkwX4_day_0 : List UInt8 := [42, 180, 0, 13, 27, 51, 172]
abbrev dktX4_day_0 : List UInt8 := dkwX4_day_0 ++ []
theorem dksX4_day_0 : cX4_day.data.toList.drop 0 = dktX4_day_0 := by decide +kernel
theorem dX4_day_0 : decode cX4_day 0 = .ok (.aload_n 0, 1) := dk_42 (dk_at dksX4_day_0 0 rfl rfl)
theorem dX4_day_1 : decode cX4_day 1 = .ok (.getfield 13, 3) := dk_180 0 13 (dk_at dksX4_day_0 1 rfl rfl)
theorem dX4_day_4 : decode cX4_day 4 = .ok (.iload_n 1, 1) := dk_27 (dk_at dksX4_day_0 4 rfl rfl)
theorem dX4_day_5 : decode cX4_day 5 = .ok (.baload, 1) := dk_51 (dk_at dksX4_day_0 5 rfl rfl)
theorem dX4_day_6 : decode cX4_day 6 = .ok (.ireturn, 1) := dk_172 (dk_at dksX4_day_0 6 rfl rfl)
abbrev cX4_length : ByteArray := prog_16_method_2_code
def yX4_length : MethodName := ⟨RX4, "length", "()I"⟩
def dkwX4_length_0 : List UInt8 := [42, 180, 0, 7, 190, 172]
abbrev dktX4_length_0 : List UInt8 := dkwX4_length_0 ++ []
theorem dksX4_length_0 : cX4_length.data.toList.drop 0 = dktX4_length_0 := by decide +kernel
theorem dX4_length_0 : decode cX4_length 0 = .ok (.aload_n 0, 1) := dk_42 (dk_at dksX4_length_0 0 rfl rfl)
theorem dX4_length_1 : decode cX4_length 1 = .ok (.getfield 7, 3) := dk_180 0 7 (dk_at dksX4_length_0 1 rfl rfl)
theorem dX4_length_4 : decode cX4_length 4 = .ok (.arraylength, 1) := dk_190 (dk_at dksX4_length_0 4 rfl rfl)
theorem dX4_length_5 : decode cX4_length 5 = .ok (.ireturn, 1) := dk_172 (dk_at dksX4_length_0 5 rfl rfl)
abbrev cX4_copy : ByteArray := prog_16_method_19_code
def yX4_copy : MethodName := ⟨RX4, "copy", "(ILRoundingAuditor$Ledger;I)V"⟩
def dkwX4_copy_1 : List UInt8 := [29, 182, 0, 47, 182, 0, 50, 177]
abbrev dktX4_copy_1 : List UInt8 := dkwX4_copy_1 ++ []
def dkwX4_copy_0 : List UInt8 := [42, 27, 44, 44, 29, 182, 0, 31, 182, 0, 35, 182, 0, 39, 54, 4, 42, 27, 44, 29, 182, 0, 43, 44]
abbrev dktX4_copy_0 : List UInt8 := dkwX4_copy_0 ++ dktX4_copy_1
theorem dksX4_copy_0 : cX4_copy.data.toList.drop 0 = dktX4_copy_0 := by decide +kernel
theorem dksX4_copy_1 : cX4_copy.data.toList.drop 24 = dktX4_copy_1 := dk_seg dksX4_copy_0 24 rfl rfl
theorem dX4_copy_0 : decode cX4_copy 0 = .ok (.aload_n 0, 1) := dk_42 (dk_at dksX4_copy_0 0 rfl rfl)
theorem dX4_copy_1 : decode cX4_copy 1 = .ok (.iload_n 1, 1) := dk_27 (dk_at dksX4_copy_0 1 rfl rfl)
theorem dX4_copy_2 : decode cX4_copy 2 = .ok (.aload_n 2, 1) := dk_44 (dk_at dksX4_copy_0 2 rfl rfl)
theorem dX4_copy_3 : decode cX4_copy 3 = .ok (.aload_n 2, 1) := dk_44 (dk_at dksX4_copy_0 3 rfl rfl)
theorem dX4_copy_4 : decode cX4_copy 4 = .ok (.iload_n 3, 1) := dk_29 (dk_at dksX4_copy_0 4 rfl rfl)
theorem dX4_copy_5 : decode cX4_copy 5 = .ok (.invokevirtual 31, 3) := dk_182 0 31 (dk_at dksX4_copy_0 5 rfl rfl)
theorem dX4_copy_8 : decode cX4_copy 8 = .ok (.invokevirtual 35, 3) := dk_182 0 35 (dk_at dksX4_copy_0 8 rfl rfl)
theorem dX4_copy_11 : decode cX4_copy 11 = .ok (.invokevirtual 39, 3) := dk_182 0 39 (dk_at dksX4_copy_0 11 rfl rfl)
theorem dX4_copy_14 : decode cX4_copy 14 = .ok (.istore 4, 2) := dk_54 4 (dk_at dksX4_copy_0 14 rfl rfl)
theorem dX4_copy_16 : decode cX4_copy 16 = .ok (.aload_n 0, 1) := dk_42 (dk_at dksX4_copy_0 16 rfl rfl)
theorem dX4_copy_17 : decode cX4_copy 17 = .ok (.iload_n 1, 1) := dk_27 (dk_at dksX4_copy_0 17 rfl rfl)
theorem dX4_copy_18 : decode cX4_copy 18 = .ok (.aload_n 2, 1) := dk_44 (dk_at dksX4_copy_0 18 rfl rfl)
theorem dX4_copy_19 : decode cX4_copy 19 = .ok (.iload_n 3, 1) := dk_29 (dk_at dksX4_copy_0 19 rfl rfl)
theorem dX4_copy_20 : decode cX4_copy 20 = .ok (.invokevirtual 43, 3) := dk_182 0 43 (dk_at dksX4_copy_0 20 rfl rfl)
theorem dX4_copy_23 : decode cX4_copy 23 = .ok (.aload_n 2, 1) := dk_44 (dk_at dksX4_copy_0 23 rfl rfl)
theorem dX4_copy_24 : decode cX4_copy 24 = .ok (.iload_n 3, 1) := dk_29 (dk_at dksX4_copy_1 0 rfl rfl)
theorem dX4_copy_25 : decode cX4_copy 25 = .ok (.invokevirtual 47, 3) := dk_182 0 47 (dk_at dksX4_copy_1 1 rfl rfl)
theorem dX4_copy_28 : decode cX4_copy 28 = .ok (.invokevirtual 50, 3) := dk_182 0 50 (dk_at dksX4_copy_1 4 rfl rfl)
theorem dX4_copy_31 : decode cX4_copy 31 = .ok (.return_, 1) := dk_177 (dk_at dksX4_copy_1 7 rfl rfl)
abbrev cX4_isLike : ByteArray := prog_16_method_18_code
def yX4_isLike : MethodName := ⟨RX4, "isLike", "(LRoundingAuditor$Ledger;)Z"⟩
def dkwX4_isLike_4 : List UInt8 := [160, 0, 7, 4, 167, 0, 4, 3, 61, 132, 3, 1, 167, 255, 183, 28, 172]
abbrev dktX4_isLike_4 : List UInt8 := dkwX4_isLike_4 ++ []
def dkwX4_isLike_3 : List UInt8 := [51, 43, 180, 0, 7, 29, 51, 160, 0, 22, 42, 180, 0, 13, 29, 51, 43, 180, 0, 13, 29, 51]
abbrev dktX4_isLike_3 : List UInt8 := dkwX4_isLike_3 ++ dktX4_isLike_4
def dkwX4_isLike_2 : List UInt8 := [182, 0, 31, 182, 0, 35, 43, 43, 29, 182, 0, 31, 182, 0, 35, 148, 154, 0, 37, 42, 180, 0, 7, 29]
abbrev dktX4_isLike_2 : List UInt8 := dkwX4_isLike_2 ++ dktX4_isLike_3
def dkwX4_isLike_1 : List UInt8 := [167, 0, 4, 3, 61, 3, 62, 28, 153, 0, 75, 29, 42, 182, 0, 27, 162, 0, 67, 42, 42, 29]
abbrev dktX4_isLike_1 : List UInt8 := dkwX4_isLike_1 ++ dktX4_isLike_2
def dkwX4_isLike_0 : List UInt8 := [42, 182, 0, 23, 43, 182, 0, 23, 160, 0, 18, 42, 182, 0, 27, 43, 182, 0, 27, 160, 0, 7, 4]
abbrev dktX4_isLike_0 : List UInt8 := dkwX4_isLike_0 ++ dktX4_isLike_1
theorem dksX4_isLike_0 : cX4_isLike.data.toList.drop 0 = dktX4_isLike_0 := by decide +kernel
theorem dksX4_isLike_1 : cX4_isLike.data.toList.drop 23 = dktX4_isLike_1 := dk_seg dksX4_isLike_0 23 rfl rfl
theorem dksX4_isLike_2 : cX4_isLike.data.toList.drop 45 = dktX4_isLike_2 := dk_seg dksX4_isLike_1 22 rfl rfl
theorem dksX4_isLike_3 : cX4_isLike.data.toList.drop 69 = dktX4_isLike_3 := dk_seg dksX4_isLike_2 24 rfl rfl
theorem dksX4_isLike_4 : cX4_isLike.data.toList.drop 91 = dktX4_isLike_4 := dk_seg dksX4_isLike_3 22 rfl rfl
theorem dX4_isLike_0 : decode cX4_isLike 0 = .ok (.aload_n 0, 1) := dk_42 (dk_at dksX4_isLike_0 0 rfl rfl)
theorem dX4_isLike_1 : decode cX4_isLike 1 = .ok (.invokevirtual 23, 3) := dk_182 0 23 (dk_at dksX4_isLike_0 1 rfl rfl)
theorem dX4_isLike_4 : decode cX4_isLike 4 = .ok (.aload_n 1, 1) := dk_43 (dk_at dksX4_isLike_0 4 rfl rfl)
theorem dX4_isLike_5 : decode cX4_isLike 5 = .ok (.invokevirtual 23, 3) := dk_182 0 23 (dk_at dksX4_isLike_0 5 rfl rfl)
theorem dX4_isLike_8 : decode cX4_isLike 8 = .ok (.if_icmp .ne 18, 3) := dk_160 0 18 (dk_at dksX4_isLike_0 8 rfl rfl)
theorem dX4_isLike_11 : decode cX4_isLike 11 = .ok (.aload_n 0, 1) := dk_42 (dk_at dksX4_isLike_0 11 rfl rfl)
theorem dX4_isLike_12 : decode cX4_isLike 12 = .ok (.invokevirtual 27, 3) := dk_182 0 27 (dk_at dksX4_isLike_0 12 rfl rfl)
theorem dX4_isLike_15 : decode cX4_isLike 15 = .ok (.aload_n 1, 1) := dk_43 (dk_at dksX4_isLike_0 15 rfl rfl)
theorem dX4_isLike_16 : decode cX4_isLike 16 = .ok (.invokevirtual 27, 3) := dk_182 0 27 (dk_at dksX4_isLike_0 16 rfl rfl)
theorem dX4_isLike_19 : decode cX4_isLike 19 = .ok (.if_icmp .ne 7, 3) := dk_160 0 7 (dk_at dksX4_isLike_0 19 rfl rfl)
theorem dX4_isLike_22 : decode cX4_isLike 22 = .ok (.iconst 1, 1) := dk_4 (dk_at dksX4_isLike_0 22 rfl rfl)
theorem dX4_isLike_23 : decode cX4_isLike 23 = .ok (.goto 4, 3) := dk_167 0 4 (dk_at dksX4_isLike_1 0 rfl rfl)
theorem dX4_isLike_26 : decode cX4_isLike 26 = .ok (.iconst 0, 1) := dk_3 (dk_at dksX4_isLike_1 3 rfl rfl)
theorem dX4_isLike_27 : decode cX4_isLike 27 = .ok (.istore_n 2, 1) := dk_61 (dk_at dksX4_isLike_1 4 rfl rfl)
theorem dX4_isLike_28 : decode cX4_isLike 28 = .ok (.iconst 0, 1) := dk_3 (dk_at dksX4_isLike_1 5 rfl rfl)
theorem dX4_isLike_29 : decode cX4_isLike 29 = .ok (.istore_n 3, 1) := dk_62 (dk_at dksX4_isLike_1 6 rfl rfl)
theorem dX4_isLike_30 : decode cX4_isLike 30 = .ok (.iload_n 2, 1) := dk_28 (dk_at dksX4_isLike_1 7 rfl rfl)
theorem dX4_isLike_31 : decode cX4_isLike 31 = .ok (.ifCond .eq 75, 3) := dk_153 0 75 (dk_at dksX4_isLike_1 8 rfl rfl)
theorem dX4_isLike_34 : decode cX4_isLike 34 = .ok (.iload_n 3, 1) := dk_29 (dk_at dksX4_isLike_1 11 rfl rfl)
theorem dX4_isLike_35 : decode cX4_isLike 35 = .ok (.aload_n 0, 1) := dk_42 (dk_at dksX4_isLike_1 12 rfl rfl)
theorem dX4_isLike_36 : decode cX4_isLike 36 = .ok (.invokevirtual 27, 3) := dk_182 0 27 (dk_at dksX4_isLike_1 13 rfl rfl)
theorem dX4_isLike_39 : decode cX4_isLike 39 = .ok (.if_icmp .ge 67, 3) := dk_162 0 67 (dk_at dksX4_isLike_1 16 rfl rfl)
theorem dX4_isLike_42 : decode cX4_isLike 42 = .ok (.aload_n 0, 1) := dk_42 (dk_at dksX4_isLike_1 19 rfl rfl)
theorem dX4_isLike_43 : decode cX4_isLike 43 = .ok (.aload_n 0, 1) := dk_42 (dk_at dksX4_isLike_1 20 rfl rfl)
theorem dX4_isLike_44 : decode cX4_isLike 44 = .ok (.iload_n 3, 1) := dk_29 (dk_at dksX4_isLike_1 21 rfl rfl)
theorem dX4_isLike_45 : decode cX4_isLike 45 = .ok (.invokevirtual 31, 3) := dk_182 0 31 (dk_at dksX4_isLike_2 0 rfl rfl)
theorem dX4_isLike_48 : decode cX4_isLike 48 = .ok (.invokevirtual 35, 3) := dk_182 0 35 (dk_at dksX4_isLike_2 3 rfl rfl)
theorem dX4_isLike_51 : decode cX4_isLike 51 = .ok (.aload_n 1, 1) := dk_43 (dk_at dksX4_isLike_2 6 rfl rfl)
theorem dX4_isLike_52 : decode cX4_isLike 52 = .ok (.aload_n 1, 1) := dk_43 (dk_at dksX4_isLike_2 7 rfl rfl)
theorem dX4_isLike_53 : decode cX4_isLike 53 = .ok (.iload_n 3, 1) := dk_29 (dk_at dksX4_isLike_2 8 rfl rfl)
theorem dX4_isLike_54 : decode cX4_isLike 54 = .ok (.invokevirtual 31, 3) := dk_182 0 31 (dk_at dksX4_isLike_2 9 rfl rfl)
theorem dX4_isLike_57 : decode cX4_isLike 57 = .ok (.invokevirtual 35, 3) := dk_182 0 35 (dk_at dksX4_isLike_2 12 rfl rfl)
theorem dX4_isLike_60 : decode cX4_isLike 60 = .ok (.lcmp, 1) := dk_148 (dk_at dksX4_isLike_2 15 rfl rfl)
theorem dX4_isLike_61 : decode cX4_isLike 61 = .ok (.ifCond .ne 37, 3) := dk_154 0 37 (dk_at dksX4_isLike_2 16 rfl rfl)
theorem dX4_isLike_64 : decode cX4_isLike 64 = .ok (.aload_n 0, 1) := dk_42 (dk_at dksX4_isLike_2 19 rfl rfl)
theorem dX4_isLike_65 : decode cX4_isLike 65 = .ok (.getfield 7, 3) := dk_180 0 7 (dk_at dksX4_isLike_2 20 rfl rfl)
theorem dX4_isLike_68 : decode cX4_isLike 68 = .ok (.iload_n 3, 1) := dk_29 (dk_at dksX4_isLike_2 23 rfl rfl)
theorem dX4_isLike_69 : decode cX4_isLike 69 = .ok (.baload, 1) := dk_51 (dk_at dksX4_isLike_3 0 rfl rfl)
theorem dX4_isLike_70 : decode cX4_isLike 70 = .ok (.aload_n 1, 1) := dk_43 (dk_at dksX4_isLike_3 1 rfl rfl)
theorem dX4_isLike_71 : decode cX4_isLike 71 = .ok (.getfield 7, 3) := dk_180 0 7 (dk_at dksX4_isLike_3 2 rfl rfl)
theorem dX4_isLike_74 : decode cX4_isLike 74 = .ok (.iload_n 3, 1) := dk_29 (dk_at dksX4_isLike_3 5 rfl rfl)
theorem dX4_isLike_75 : decode cX4_isLike 75 = .ok (.baload, 1) := dk_51 (dk_at dksX4_isLike_3 6 rfl rfl)
theorem dX4_isLike_76 : decode cX4_isLike 76 = .ok (.if_icmp .ne 22, 3) := dk_160 0 22 (dk_at dksX4_isLike_3 7 rfl rfl)
theorem dX4_isLike_79 : decode cX4_isLike 79 = .ok (.aload_n 0, 1) := dk_42 (dk_at dksX4_isLike_3 10 rfl rfl)
theorem dX4_isLike_80 : decode cX4_isLike 80 = .ok (.getfield 13, 3) := dk_180 0 13 (dk_at dksX4_isLike_3 11 rfl rfl)
theorem dX4_isLike_83 : decode cX4_isLike 83 = .ok (.iload_n 3, 1) := dk_29 (dk_at dksX4_isLike_3 14 rfl rfl)
theorem dX4_isLike_84 : decode cX4_isLike 84 = .ok (.baload, 1) := dk_51 (dk_at dksX4_isLike_3 15 rfl rfl)
theorem dX4_isLike_85 : decode cX4_isLike 85 = .ok (.aload_n 1, 1) := dk_43 (dk_at dksX4_isLike_3 16 rfl rfl)
theorem dX4_isLike_86 : decode cX4_isLike 86 = .ok (.getfield 13, 3) := dk_180 0 13 (dk_at dksX4_isLike_3 17 rfl rfl)
theorem dX4_isLike_89 : decode cX4_isLike 89 = .ok (.iload_n 3, 1) := dk_29 (dk_at dksX4_isLike_3 20 rfl rfl)
theorem dX4_isLike_90 : decode cX4_isLike 90 = .ok (.baload, 1) := dk_51 (dk_at dksX4_isLike_3 21 rfl rfl)
theorem dX4_isLike_91 : decode cX4_isLike 91 = .ok (.if_icmp .ne 7, 3) := dk_160 0 7 (dk_at dksX4_isLike_4 0 rfl rfl)
theorem dX4_isLike_94 : decode cX4_isLike 94 = .ok (.iconst 1, 1) := dk_4 (dk_at dksX4_isLike_4 3 rfl rfl)
theorem dX4_isLike_95 : decode cX4_isLike 95 = .ok (.goto 4, 3) := dk_167 0 4 (dk_at dksX4_isLike_4 4 rfl rfl)
theorem dX4_isLike_98 : decode cX4_isLike 98 = .ok (.iconst 0, 1) := dk_3 (dk_at dksX4_isLike_4 7 rfl rfl)
theorem dX4_isLike_99 : decode cX4_isLike 99 = .ok (.istore_n 2, 1) := dk_61 (dk_at dksX4_isLike_4 8 rfl rfl)
theorem dX4_isLike_100 : decode cX4_isLike 100 = .ok (.iinc 3 1, 3) := dk_132 3 1 (dk_at dksX4_isLike_4 9 rfl rfl)
theorem dX4_isLike_103 : decode cX4_isLike 103 = .ok (.goto (-73), 3) := dk_167 255 183 (dk_at dksX4_isLike_4 12 rfl rfl)
theorem dX4_isLike_106 : decode cX4_isLike 106 = .ok (.iload_n 2, 1) := dk_28 (dk_at dksX4_isLike_4 15 rfl rfl)
theorem dX4_isLike_107 : decode cX4_isLike 107 = .ok (.ireturn, 1) := dk_172 (dk_at dksX4_isLike_4 16 rfl rfl)
abbrev cX4_give : ByteArray := prog_16_method_8_code
def yX4_give : MethodName := ⟨RX4, "give", "(I)Z"⟩
def dkwX4_give_2 : List UInt8 := [181, 0, 19, 4, 172]
abbrev dktX4_give_2 : List UInt8 := dkwX4_give_2 ++ []
def dkwX4_give_1 : List UInt8 := [132, 2, 1, 167, 255, 233, 42, 180, 0, 16, 42, 180, 0, 19, 27, 145, 84, 42, 89, 180, 0, 19, 4, 96]
abbrev dktX4_give_1 : List UInt8 := dkwX4_give_1 ++ dktX4_give_2
def dkwX4_give_0 : List UInt8 := [3, 61, 28, 42, 180, 0, 19, 162, 0, 21, 42, 180, 0, 16, 28, 51, 27, 160, 0, 5, 3, 172]
abbrev dktX4_give_0 : List UInt8 := dkwX4_give_0 ++ dktX4_give_1
theorem dksX4_give_0 : cX4_give.data.toList.drop 0 = dktX4_give_0 := by decide +kernel
theorem dksX4_give_1 : cX4_give.data.toList.drop 22 = dktX4_give_1 := dk_seg dksX4_give_0 22 rfl rfl
theorem dksX4_give_2 : cX4_give.data.toList.drop 46 = dktX4_give_2 := dk_seg dksX4_give_1 24 rfl rfl
theorem dX4_give_0 : decode cX4_give 0 = .ok (.iconst 0, 1) := dk_3 (dk_at dksX4_give_0 0 rfl rfl)
theorem dX4_give_1 : decode cX4_give 1 = .ok (.istore_n 2, 1) := dk_61 (dk_at dksX4_give_0 1 rfl rfl)
theorem dX4_give_2 : decode cX4_give 2 = .ok (.iload_n 2, 1) := dk_28 (dk_at dksX4_give_0 2 rfl rfl)
theorem dX4_give_3 : decode cX4_give 3 = .ok (.aload_n 0, 1) := dk_42 (dk_at dksX4_give_0 3 rfl rfl)
theorem dX4_give_4 : decode cX4_give 4 = .ok (.getfield 19, 3) := dk_180 0 19 (dk_at dksX4_give_0 4 rfl rfl)
theorem dX4_give_7 : decode cX4_give 7 = .ok (.if_icmp .ge 21, 3) := dk_162 0 21 (dk_at dksX4_give_0 7 rfl rfl)
theorem dX4_give_10 : decode cX4_give 10 = .ok (.aload_n 0, 1) := dk_42 (dk_at dksX4_give_0 10 rfl rfl)
theorem dX4_give_11 : decode cX4_give 11 = .ok (.getfield 16, 3) := dk_180 0 16 (dk_at dksX4_give_0 11 rfl rfl)
theorem dX4_give_14 : decode cX4_give 14 = .ok (.iload_n 2, 1) := dk_28 (dk_at dksX4_give_0 14 rfl rfl)
theorem dX4_give_15 : decode cX4_give 15 = .ok (.baload, 1) := dk_51 (dk_at dksX4_give_0 15 rfl rfl)
theorem dX4_give_16 : decode cX4_give 16 = .ok (.iload_n 1, 1) := dk_27 (dk_at dksX4_give_0 16 rfl rfl)
theorem dX4_give_17 : decode cX4_give 17 = .ok (.if_icmp .ne 5, 3) := dk_160 0 5 (dk_at dksX4_give_0 17 rfl rfl)
theorem dX4_give_20 : decode cX4_give 20 = .ok (.iconst 0, 1) := dk_3 (dk_at dksX4_give_0 20 rfl rfl)
theorem dX4_give_21 : decode cX4_give 21 = .ok (.ireturn, 1) := dk_172 (dk_at dksX4_give_0 21 rfl rfl)
theorem dX4_give_22 : decode cX4_give 22 = .ok (.iinc 2 1, 3) := dk_132 2 1 (dk_at dksX4_give_1 0 rfl rfl)
theorem dX4_give_25 : decode cX4_give 25 = .ok (.goto (-23), 3) := dk_167 255 233 (dk_at dksX4_give_1 3 rfl rfl)
theorem dX4_give_28 : decode cX4_give 28 = .ok (.aload_n 0, 1) := dk_42 (dk_at dksX4_give_1 6 rfl rfl)
theorem dX4_give_29 : decode cX4_give 29 = .ok (.getfield 16, 3) := dk_180 0 16 (dk_at dksX4_give_1 7 rfl rfl)
theorem dX4_give_32 : decode cX4_give 32 = .ok (.aload_n 0, 1) := dk_42 (dk_at dksX4_give_1 10 rfl rfl)
theorem dX4_give_33 : decode cX4_give 33 = .ok (.getfield 19, 3) := dk_180 0 19 (dk_at dksX4_give_1 11 rfl rfl)
theorem dX4_give_36 : decode cX4_give 36 = .ok (.iload_n 1, 1) := dk_27 (dk_at dksX4_give_1 14 rfl rfl)
theorem dX4_give_37 : decode cX4_give 37 = .ok (.i2b, 1) := dk_145 (dk_at dksX4_give_1 15 rfl rfl)
theorem dX4_give_38 : decode cX4_give 38 = .ok (.bastore, 1) := dk_84 (dk_at dksX4_give_1 16 rfl rfl)
theorem dX4_give_39 : decode cX4_give 39 = .ok (.aload_n 0, 1) := dk_42 (dk_at dksX4_give_1 17 rfl rfl)
theorem dX4_give_40 : decode cX4_give 40 = .ok (.dup, 1) := dk_89 (dk_at dksX4_give_1 18 rfl rfl)
theorem dX4_give_41 : decode cX4_give 41 = .ok (.getfield 19, 3) := dk_180 0 19 (dk_at dksX4_give_1 19 rfl rfl)
theorem dX4_give_44 : decode cX4_give 44 = .ok (.iconst 1, 1) := dk_4 (dk_at dksX4_give_1 22 rfl rfl)
theorem dX4_give_45 : decode cX4_give 45 = .ok (.iadd, 1) := dk_96 (dk_at dksX4_give_1 23 rfl rfl)
theorem dX4_give_46 : decode cX4_give 46 = .ok (.putfield 19, 3) := dk_181 0 19 (dk_at dksX4_give_2 0 rfl rfl)
theorem dX4_give_49 : decode cX4_give 49 = .ok (.iconst 1, 1) := dk_4 (dk_at dksX4_give_2 3 rfl rfl)
theorem dX4_give_50 : decode cX4_give 50 = .ok (.ireturn, 1) := dk_172 (dk_at dksX4_give_2 4 rfl rfl)
abbrev cX4_givenCount : ByteArray := prog_16_method_6_code
def yX4_givenCount : MethodName := ⟨RX4, "givenCount", "()I"⟩
theorem dX4_givenCount_0 : decode cX4_givenCount 0 = .ok (.aload_n 0, 1) := by decide +kernel
theorem dX4_givenCount_1 : decode cX4_givenCount 1 = .ok (.getfield 19, 3) := by decide +kernel
theorem dX4_givenCount_4 : decode cX4_givenCount 4 = .ok (.ireturn, 1) := by decide +kernel
abbrev cX4_given : ByteArray := prog_16_method_7_code
def yX4_given : MethodName := ⟨RX4, "given", "(I)I"⟩
def dkwX4_given_0 : List UInt8 := [42, 180, 0, 16, 27, 51, 172]
abbrev dktX4_given_0 : List UInt8 := dkwX4_given_0 ++ []
theorem dksX4_given_0 : cX4_given.data.toList.drop 0 = dktX4_given_0 := by decide +kernel
theorem dX4_given_0 : decode cX4_given 0 = .ok (.aload_n 0, 1) := dk_42 (dk_at dksX4_given_0 0 rfl rfl)
theorem dX4_given_1 : decode cX4_given 1 = .ok (.getfield 16, 3) := dk_180 0 16 (dk_at dksX4_given_0 1 rfl rfl)
theorem dX4_given_4 : decode cX4_given 4 = .ok (.iload_n 1, 1) := dk_27 (dk_at dksX4_given_0 4 rfl rfl)
theorem dX4_given_5 : decode cX4_given 5 = .ok (.baload, 1) := dk_51 (dk_at dksX4_given_0 5 rfl rfl)
theorem dX4_given_6 : decode cX4_given 6 = .ok (.ireturn, 1) := dk_172 (dk_at dksX4_given_0 6 rfl rfl)
theorem q78 : (Jvm.Cond.initialized "RoundingAuditor$Ledger") ∈ lw_all := lw_g (lw_at lw_m1 14 rfl) rfl
theorem q510 : (Jvm.Cond.instanceMethod ({ cls := "RoundingAuditor$Ledger", name := "<init>", desc := "(I)V" } : Jvm.MethodName)) ∈ lw_all := lw_g (lw_at lw_m2 206 rfl) rfl
theorem q511 : (Jvm.Cond.code ({ cls := "RoundingAuditor$Ledger", name := "<init>", desc := "(I)V" } : Jvm.MethodName) prog_16_method_1_code (2 : Nat) (Option.none : Option Jvm.ClassFile.FieldType)) ∈ lw_all := lw_g (lw_at lw_m2 207 rfl) rfl
theorem q512 : (Jvm.Cond.methodLink "RoundingAuditor$Ledger" (1 : Nat) ({ cls := "java/lang/Object", name := "<init>", desc := "()V" } : Jvm.MethodName)) ∈ lw_all := lw_g (lw_at lw_m2 208 rfl) rfl
theorem q514 : (Jvm.Cond.fieldLink "RoundingAuditor$Ledger" (7 : Nat) "RoundingAuditor$Ledger" "accounts" "[B") ∈ lw_all := lw_g (lw_at lw_m2 210 rfl) rfl
theorem q515 : (Jvm.Cond.fieldLink "RoundingAuditor$Ledger" (13 : Nat) "RoundingAuditor$Ledger" "days" "[B") ∈ lw_all := lw_g (lw_at lw_m2 211 rfl) rfl
theorem q516 : (Jvm.Cond.fieldLink "RoundingAuditor$Ledger" (16 : Nat) "RoundingAuditor$Ledger" "given" "[B") ∈ lw_all := lw_g (lw_at lw_m2 212 rfl) rfl
theorem q517 : (Jvm.Cond.fieldLink "RoundingAuditor$Ledger" (19 : Nat) "RoundingAuditor$Ledger" "givenCount" "I") ∈ lw_all := lw_g (lw_at lw_m2 213 rfl) rfl
theorem q521 : (Jvm.Cond.soleField "RoundingAuditor$Ledger" "accounts") ∈ lw_all := lw_g (lw_at lw_m2 217 rfl) rfl
theorem q523 : (Jvm.Cond.soleField "RoundingAuditor$Ledger" "days") ∈ lw_all := lw_g (lw_at lw_m2 219 rfl) rfl
theorem q525 : (Jvm.Cond.soleField "RoundingAuditor$Ledger" "given") ∈ lw_all := lw_g (lw_at lw_m2 221 rfl) rfl
theorem q527 : (Jvm.Cond.soleField "RoundingAuditor$Ledger" "givenCount") ∈ lw_all := lw_g (lw_at lw_m2 223 rfl) rfl
theorem q578 : (Jvm.Cond.declares ({ cls := "RoundingAuditor$Ledger", name := "put", desc := "(IJ)Z" } : Jvm.MethodName)) ∈ lw_tbl := lw_at lw_m3 34 rfl
theorem q579 : (Jvm.Cond.sameMethod "RoundingAuditor$Ledger" "RoundingAuditor$Ledger" "put" "(IJ)Z") ∈ lw_all := lw_g (lw_at lw_m3 35 rfl) rfl
theorem q605 : (Jvm.Cond.instanceMethod ({ cls := "RoundingAuditor$Ledger", name := "book", desc := "(III)V" } : Jvm.MethodName)) ∈ lw_all := lw_g (lw_at lw_m3 61 rfl) rfl
theorem q606 : (Jvm.Cond.sameMethod "RoundingAuditor$Ledger" "RoundingAuditor$Ledger" "book" "(III)V") ∈ lw_all := lw_g (lw_at lw_m3 62 rfl) rfl
theorem q609 : (Jvm.Cond.code ({ cls := "RoundingAuditor$Ledger", name := "book", desc := "(III)V" } : Jvm.MethodName) prog_16_method_3_code (4 : Nat) (Option.none : Option Jvm.ClassFile.FieldType)) ∈ lw_all := lw_g (lw_at lw_m3 65 rfl) rfl
theorem q618 : (Jvm.Cond.declares ({ cls := "RoundingAuditor$Ledger", name := "at", desc := "(I)D" } : Jvm.MethodName)) ∈ lw_tbl := lw_at lw_m3 74 rfl
theorem q619 : (Jvm.Cond.sameMethod "RoundingAuditor$Ledger" "RoundingAuditor$Ledger" "at" "(I)D") ∈ lw_all := lw_g (lw_at lw_m3 75 rfl) rfl
theorem q627 : (Jvm.Cond.declares ({ cls := "RoundingAuditor$Ledger", name := "bits", desc := "(D)J" } : Jvm.MethodName)) ∈ lw_tbl := lw_at lw_m3 83 rfl
theorem q628 : (Jvm.Cond.sameMethod "RoundingAuditor$Ledger" "RoundingAuditor$Ledger" "bits" "(D)J") ∈ lw_all := lw_g (lw_at lw_m3 84 rfl) rfl
theorem q643 : (Jvm.Cond.instanceMethod ({ cls := "RoundingAuditor$Ledger", name := "account", desc := "(I)I" } : Jvm.MethodName)) ∈ lw_all := lw_g (lw_at lw_m3 99 rfl) rfl
theorem q644 : (Jvm.Cond.sameMethod "RoundingAuditor$Ledger" "RoundingAuditor$Ledger" "account" "(I)I") ∈ lw_all := lw_g (lw_at lw_m3 100 rfl) rfl
theorem q647 : (Jvm.Cond.code ({ cls := "RoundingAuditor$Ledger", name := "account", desc := "(I)I" } : Jvm.MethodName) prog_16_method_4_code (2 : Nat) (Option.some Jvm.ClassFile.FieldType.int)) ∈ lw_all := lw_g (lw_at lw_m3 103 rfl) rfl
theorem q649 : (Jvm.Cond.instanceMethod ({ cls := "RoundingAuditor$Ledger", name := "day", desc := "(I)I" } : Jvm.MethodName)) ∈ lw_all := lw_g (lw_at lw_m3 105 rfl) rfl
theorem q650 : (Jvm.Cond.sameMethod "RoundingAuditor$Ledger" "RoundingAuditor$Ledger" "day" "(I)I") ∈ lw_all := lw_g (lw_at lw_m3 106 rfl) rfl
theorem q653 : (Jvm.Cond.code ({ cls := "RoundingAuditor$Ledger", name := "day", desc := "(I)I" } : Jvm.MethodName) prog_16_method_5_code (2 : Nat) (Option.some Jvm.ClassFile.FieldType.int)) ∈ lw_all := lw_g (lw_at lw_m3 109 rfl) rfl
theorem q662 : (Jvm.Cond.instanceMethod ({ cls := "RoundingAuditor$Ledger", name := "length", desc := "()I" } : Jvm.MethodName)) ∈ lw_all := lw_g (lw_at lw_m3 118 rfl) rfl
theorem q663 : (Jvm.Cond.sameMethod "RoundingAuditor$Ledger" "RoundingAuditor$Ledger" "length" "()I") ∈ lw_all := lw_g (lw_at lw_m3 119 rfl) rfl
theorem q666 : (Jvm.Cond.code ({ cls := "RoundingAuditor$Ledger", name := "length", desc := "()I" } : Jvm.MethodName) prog_16_method_2_code (1 : Nat) (Option.some Jvm.ClassFile.FieldType.int)) ∈ lw_all := lw_g (lw_at lw_m3 122 rfl) rfl
theorem q668 : (Jvm.Cond.declares ({ cls := "RoundingAuditor$Ledger", name := "isWide", desc := "()Z" } : Jvm.MethodName)) ∈ lw_tbl := lw_at lw_m3 124 rfl
theorem q669 : (Jvm.Cond.sameMethod "RoundingAuditor$Ledger" "RoundingAuditor$Ledger" "isWide" "()Z") ∈ lw_all := lw_g (lw_at lw_m3 125 rfl) rfl
theorem q693 : (Jvm.Cond.declares ({ cls := "RoundingAuditor$Ledger", name := "least", desc := "()D" } : Jvm.MethodName)) ∈ lw_tbl := lw_at lw_m3 149 rfl
theorem q694 : (Jvm.Cond.sameMethod "RoundingAuditor$Ledger" "RoundingAuditor$Ledger" "least" "()D") ∈ lw_all := lw_g (lw_at lw_m3 150 rfl) rfl
theorem q712 : (Jvm.Cond.declares ({ cls := "RoundingAuditor$Ledger", name := "another", desc := "(I)LRoundingAuditor$Ledger;" } : Jvm.MethodName)) ∈ lw_tbl := lw_at lw_m3 168 rfl
theorem q713 : (Jvm.Cond.sameMethod "RoundingAuditor$Ledger" "RoundingAuditor$Ledger" "another" "(I)LRoundingAuditor$Ledger;") ∈ lw_all := lw_g (lw_at lw_m3 169 rfl) rfl
theorem q725 : (Jvm.Cond.instanceMethod ({ cls := "RoundingAuditor$Ledger", name := "copy", desc := "(ILRoundingAuditor$Ledger;I)V" } : Jvm.MethodName)) ∈ lw_all := lw_g (lw_at lw_m3 181 rfl) rfl
theorem q726 : (Jvm.Cond.sameMethod "RoundingAuditor$Ledger" "RoundingAuditor$Ledger" "copy" "(ILRoundingAuditor$Ledger;I)V") ∈ lw_all := lw_g (lw_at lw_m3 182 rfl) rfl
theorem q729 : (Jvm.Cond.code ({ cls := "RoundingAuditor$Ledger", name := "copy", desc := "(ILRoundingAuditor$Ledger;I)V" } : Jvm.MethodName) prog_16_method_19_code (5 : Nat) (Option.none : Option Jvm.ClassFile.FieldType)) ∈ lw_all := lw_g (lw_at lw_m3 185 rfl) rfl
theorem q730 : (Jvm.Cond.methodLink "RoundingAuditor$Ledger" (31 : Nat) ({ cls := "RoundingAuditor$Ledger", name := "at", desc := "(I)D" } : Jvm.MethodName)) ∈ lw_all := lw_g (lw_at lw_m3 186 rfl) rfl
theorem q731 : (Jvm.Cond.methodLink "RoundingAuditor$Ledger" (35 : Nat) ({ cls := "RoundingAuditor$Ledger", name := "bits", desc := "(D)J" } : Jvm.MethodName)) ∈ lw_all := lw_g (lw_at lw_m3 187 rfl) rfl
theorem q732 : (Jvm.Cond.methodLink "RoundingAuditor$Ledger" (39 : Nat) ({ cls := "RoundingAuditor$Ledger", name := "put", desc := "(IJ)Z" } : Jvm.MethodName)) ∈ lw_all := lw_g (lw_at lw_m3 188 rfl) rfl
theorem q733 : (Jvm.Cond.methodLink "RoundingAuditor$Ledger" (43 : Nat) ({ cls := "RoundingAuditor$Ledger", name := "account", desc := "(I)I" } : Jvm.MethodName)) ∈ lw_all := lw_g (lw_at lw_m3 189 rfl) rfl
theorem q734 : (Jvm.Cond.methodLink "RoundingAuditor$Ledger" (47 : Nat) ({ cls := "RoundingAuditor$Ledger", name := "day", desc := "(I)I" } : Jvm.MethodName)) ∈ lw_all := lw_g (lw_at lw_m3 190 rfl) rfl
theorem q735 : (Jvm.Cond.methodLink "RoundingAuditor$Ledger" (50 : Nat) ({ cls := "RoundingAuditor$Ledger", name := "book", desc := "(III)V" } : Jvm.MethodName)) ∈ lw_all := lw_g (lw_at lw_m3 191 rfl) rfl
theorem q751 : (Jvm.Cond.instanceMethod ({ cls := "RoundingAuditor$Ledger", name := "isLike", desc := "(LRoundingAuditor$Ledger;)Z" } : Jvm.MethodName)) ∈ lw_all := lw_g (lw_at lw_m3 207 rfl) rfl
theorem q752 : (Jvm.Cond.sameMethod "RoundingAuditor$Ledger" "RoundingAuditor$Ledger" "isLike" "(LRoundingAuditor$Ledger;)Z") ∈ lw_all := lw_g (lw_at lw_m3 208 rfl) rfl
theorem q755 : (Jvm.Cond.code ({ cls := "RoundingAuditor$Ledger", name := "isLike", desc := "(LRoundingAuditor$Ledger;)Z" } : Jvm.MethodName) prog_16_method_18_code (4 : Nat) (Option.some Jvm.ClassFile.FieldType.boolean)) ∈ lw_all := lw_g (lw_at lw_m3 211 rfl) rfl
theorem q756 : (Jvm.Cond.methodLink "RoundingAuditor$Ledger" (23 : Nat) ({ cls := "RoundingAuditor$Ledger", name := "isWide", desc := "()Z" } : Jvm.MethodName)) ∈ lw_all := lw_g (lw_at lw_m3 212 rfl) rfl
theorem q757 : (Jvm.Cond.methodLink "RoundingAuditor$Ledger" (27 : Nat) ({ cls := "RoundingAuditor$Ledger", name := "length", desc := "()I" } : Jvm.MethodName)) ∈ lw_all := lw_g (lw_at lw_m3 213 rfl) rfl
theorem q786 : (Jvm.Cond.declares ({ cls := "RoundingAuditor$Ledger", name := "worked", desc := "(DDI)D" } : Jvm.MethodName)) ∈ lw_tbl := lw_at lw_m4 2 rfl
theorem q787 : (Jvm.Cond.sameMethod "RoundingAuditor$Ledger" "RoundingAuditor$Ledger" "worked" "(DDI)D") ∈ lw_all := lw_g (lw_at lw_m4 3 rfl) rfl
theorem q869 : (Jvm.Cond.declares ({ cls := "RoundingAuditor$Ledger", name := "whole", desc := "(DI)J" } : Jvm.MethodName)) ∈ lw_tbl := lw_at lw_m4 85 rfl
theorem q870 : (Jvm.Cond.sameMethod "RoundingAuditor$Ledger" "RoundingAuditor$Ledger" "whole" "(DI)J") ∈ lw_all := lw_g (lw_at lw_m4 86 rfl) rfl
theorem q920 : (Jvm.Cond.instanceMethod ({ cls := "RoundingAuditor$Ledger", name := "give", desc := "(I)Z" } : Jvm.MethodName)) ∈ lw_all := lw_g (lw_at lw_m4 136 rfl) rfl
theorem q921 : (Jvm.Cond.sameMethod "RoundingAuditor$Ledger" "RoundingAuditor$Ledger" "give" "(I)Z") ∈ lw_all := lw_g (lw_at lw_m4 137 rfl) rfl
theorem q924 : (Jvm.Cond.code ({ cls := "RoundingAuditor$Ledger", name := "give", desc := "(I)Z" } : Jvm.MethodName) prog_16_method_8_code (3 : Nat) (Option.some Jvm.ClassFile.FieldType.boolean)) ∈ lw_all := lw_g (lw_at lw_m4 140 rfl) rfl
theorem q926 : (Jvm.Cond.instanceMethod ({ cls := "RoundingAuditor$Ledger", name := "givenCount", desc := "()I" } : Jvm.MethodName)) ∈ lw_all := lw_g (lw_at lw_m4 142 rfl) rfl
theorem q927 : (Jvm.Cond.sameMethod "RoundingAuditor$Ledger" "RoundingAuditor$Ledger" "givenCount" "()I") ∈ lw_all := lw_g (lw_at lw_m4 143 rfl) rfl
theorem q930 : (Jvm.Cond.code ({ cls := "RoundingAuditor$Ledger", name := "givenCount", desc := "()I" } : Jvm.MethodName) prog_16_method_6_code (1 : Nat) (Option.some Jvm.ClassFile.FieldType.int)) ∈ lw_all := lw_g (lw_at lw_m4 146 rfl) rfl
theorem q1146 : (Jvm.Cond.superclass "RoundingAuditor$Ledger" "java/lang/Object") ∈ lw_all := lw_g (lw_at lw_m5 122 rfl) rfl
theorem q1202 : (Jvm.Cond.instanceMethod ({ cls := "RoundingAuditor$Ledger", name := "given", desc := "(I)I" } : Jvm.MethodName)) ∈ lw_all := lw_g (lw_at lw_m5 178 rfl) rfl
theorem q1203 : (Jvm.Cond.sameMethod "RoundingAuditor$Ledger" "RoundingAuditor$Ledger" "given" "(I)I") ∈ lw_all := lw_g (lw_at lw_m5 179 rfl) rfl
theorem q1206 : (Jvm.Cond.code ({ cls := "RoundingAuditor$Ledger", name := "given", desc := "(I)I" } : Jvm.MethodName) prog_16_method_7_code (2 : Nat) (Option.some Jvm.ClassFile.FieldType.int)) ∈ lw_all := lw_g (lw_at lw_m5 182 rfl) rfl
theorem q1391 : (Jvm.Cond.declares ({ cls := "RoundingAuditor$Ledger", name := "nearest", desc := "(LRoundingAuditor$Exact;)D" } : Jvm.MethodName)) ∈ lw_tbl := lw_at lw_m6 127 rfl
theorem q1392 : (Jvm.Cond.sameMethod "RoundingAuditor$Ledger" "RoundingAuditor$Ledger" "nearest" "(LRoundingAuditor$Exact;)D") ∈ lw_all := lw_g (lw_at lw_m6 128 rfl) rfl
theorem q2054 : (Jvm.Cond.castable "RoundingAuditor$Ledger" "java/lang/Object") ∈ lw_tbl := lw_at lw_m9 70 rfl

/-! RoundingAuditor$Wide -/
set_option maxRecDepth 100000
def RX5 : String := "RoundingAuditor$Wide"
def TX5 : u_T := fun k => match k with
  | 0 => ("RoundingAuditor$Ledger", "accounts", "[B", true)
  | 1 => ("RoundingAuditor$Ledger", "days", "[B", true)
  | 2 => ("RoundingAuditor$Ledger", "given", "[B", true)
  | 3 => ("RoundingAuditor$Ledger", "givenCount", "I", false)
  | _ => ("RoundingAuditor$Wide", "amounts", "[D", true)
def tyX5 : Nat → FieldType := fun k => match k with
  | 0 => .array .byte
  | 1 => .array .byte
  | 2 => .array .byte
  | 3 => .int
  | _ => .array .double
abbrev wsX50 : List Cond := u_ws RX5 TX5 5
theorem nmX5 : ∀ a, a < 5 → ∀ b, b < 5 → a ≠ b → (TX5 a).2.1 ≠ (TX5 b).2.1 := by decide +kernel
theorem tyX5_ok : ∀ k, k < 5 → parseFieldDescriptor (TX5 k).2.2.1 = some (tyX5 k) := by decide +kernel
abbrev cX5_init : ByteArray := prog_25_method_1_code
def yX5_init : MethodName := ⟨RX5, "<init>", "(I)V"⟩
def dkwX5_init_0 : List UInt8 := [42, 27, 183, 0, 3, 42, 27, 188, 7, 181, 0, 9, 177]
abbrev dktX5_init_0 : List UInt8 := dkwX5_init_0 ++ []
theorem dksX5_init_0 : cX5_init.data.toList.drop 0 = dktX5_init_0 := by decide +kernel
theorem dX5_init_0 : decode cX5_init 0 = .ok (.aload_n 0, 1) := dk_42 (dk_at dksX5_init_0 0 rfl rfl)
theorem dX5_init_1 : decode cX5_init 1 = .ok (.iload_n 1, 1) := dk_27 (dk_at dksX5_init_0 1 rfl rfl)
theorem dX5_init_2 : decode cX5_init 2 = .ok (.invokespecial 3, 3) := dk_183 0 3 (dk_at dksX5_init_0 2 rfl rfl)
theorem dX5_init_5 : decode cX5_init 5 = .ok (.aload_n 0, 1) := dk_42 (dk_at dksX5_init_0 5 rfl rfl)
theorem dX5_init_6 : decode cX5_init 6 = .ok (.iload_n 1, 1) := dk_27 (dk_at dksX5_init_0 6 rfl rfl)
theorem dX5_init_7 : decode cX5_init 7 = .ok (.newarray .double, 2) := dk_188_7 (dk_at dksX5_init_0 7 rfl rfl)
theorem dX5_init_9 : decode cX5_init 9 = .ok (.putfield 9, 3) := dk_181 0 9 (dk_at dksX5_init_0 9 rfl rfl)
theorem dX5_init_12 : decode cX5_init 12 = .ok (.return_, 1) := dk_177 (dk_at dksX5_init_0 12 rfl rfl)
abbrev cX5_put : ByteArray := prog_25_method_5_code
def yX5_put : MethodName := ⟨RX5, "put", "(IJ)Z"⟩
def dkwX5_put_1 : List UInt8 := [172, 42, 180, 0, 9, 27, 32, 184, 0, 26, 82, 4, 172]
abbrev dktX5_put_1 : List UInt8 := dkwX5_put_1 ++ []
def dkwX5_put_0 : List UInt8 := [42, 180, 0, 9, 27, 49, 57, 4, 32, 20, 0, 16, 127, 20, 0, 18, 184, 0, 20, 148, 158, 0, 5, 3]
abbrev dktX5_put_0 : List UInt8 := dkwX5_put_0 ++ dktX5_put_1
theorem dksX5_put_0 : cX5_put.data.toList.drop 0 = dktX5_put_0 := by decide +kernel
theorem dksX5_put_1 : cX5_put.data.toList.drop 24 = dktX5_put_1 := dk_seg dksX5_put_0 24 rfl rfl
theorem dX5_put_0 : decode cX5_put 0 = .ok (.aload_n 0, 1) := dk_42 (dk_at dksX5_put_0 0 rfl rfl)
theorem dX5_put_1 : decode cX5_put 1 = .ok (.getfield 9, 3) := dk_180 0 9 (dk_at dksX5_put_0 1 rfl rfl)
theorem dX5_put_4 : decode cX5_put 4 = .ok (.iload_n 1, 1) := dk_27 (dk_at dksX5_put_0 4 rfl rfl)
theorem dX5_put_5 : decode cX5_put 5 = .ok (.daload, 1) := dk_49 (dk_at dksX5_put_0 5 rfl rfl)
theorem dX5_put_6 : decode cX5_put 6 = .ok (.dstore 4, 2) := dk_57 4 (dk_at dksX5_put_0 6 rfl rfl)
theorem dX5_put_8 : decode cX5_put 8 = .ok (.lload_n 2, 1) := dk_32 (dk_at dksX5_put_0 8 rfl rfl)
theorem dX5_put_9 : decode cX5_put 9 = .ok (.ldc2_w 16, 3) := dk_20 0 16 (dk_at dksX5_put_0 9 rfl rfl)
theorem dX5_put_12 : decode cX5_put 12 = .ok (.land, 1) := dk_127 (dk_at dksX5_put_0 12 rfl rfl)
theorem dX5_put_13 : decode cX5_put 13 = .ok (.ldc2_w 18, 3) := dk_20 0 18 (dk_at dksX5_put_0 13 rfl rfl)
theorem dX5_put_16 : decode cX5_put 16 = .ok (.invokestatic 20, 3) := dk_184 0 20 (dk_at dksX5_put_0 16 rfl rfl)
theorem dX5_put_19 : decode cX5_put 19 = .ok (.lcmp, 1) := dk_148 (dk_at dksX5_put_0 19 rfl rfl)
theorem dX5_put_20 : decode cX5_put 20 = .ok (.ifCond .le 5, 3) := dk_158 0 5 (dk_at dksX5_put_0 20 rfl rfl)
theorem dX5_put_23 : decode cX5_put 23 = .ok (.iconst 0, 1) := dk_3 (dk_at dksX5_put_0 23 rfl rfl)
theorem dX5_put_24 : decode cX5_put 24 = .ok (.ireturn, 1) := dk_172 (dk_at dksX5_put_1 0 rfl rfl)
theorem dX5_put_25 : decode cX5_put 25 = .ok (.aload_n 0, 1) := dk_42 (dk_at dksX5_put_1 1 rfl rfl)
theorem dX5_put_26 : decode cX5_put 26 = .ok (.getfield 9, 3) := dk_180 0 9 (dk_at dksX5_put_1 2 rfl rfl)
theorem dX5_put_29 : decode cX5_put 29 = .ok (.iload_n 1, 1) := dk_27 (dk_at dksX5_put_1 5 rfl rfl)
theorem dX5_put_30 : decode cX5_put 30 = .ok (.lload_n 2, 1) := dk_32 (dk_at dksX5_put_1 6 rfl rfl)
theorem dX5_put_31 : decode cX5_put 31 = .ok (.invokestatic 26, 3) := dk_184 0 26 (dk_at dksX5_put_1 7 rfl rfl)
theorem dX5_put_34 : decode cX5_put 34 = .ok (.dastore, 1) := dk_82 (dk_at dksX5_put_1 10 rfl rfl)
theorem dX5_put_35 : decode cX5_put 35 = .ok (.iconst 1, 1) := dk_4 (dk_at dksX5_put_1 11 rfl rfl)
theorem dX5_put_36 : decode cX5_put 36 = .ok (.ireturn, 1) := dk_172 (dk_at dksX5_put_1 12 rfl rfl)
abbrev cX5_at : ByteArray := prog_25_method_4_code
def yX5_at : MethodName := ⟨RX5, "at", "(I)D"⟩
def dkwX5_at_0 : List UInt8 := [42, 180, 0, 9, 27, 49, 175]
abbrev dktX5_at_0 : List UInt8 := dkwX5_at_0 ++ []
theorem dksX5_at_0 : cX5_at.data.toList.drop 0 = dktX5_at_0 := by decide +kernel
theorem dX5_at_0 : decode cX5_at 0 = .ok (.aload_n 0, 1) := dk_42 (dk_at dksX5_at_0 0 rfl rfl)
theorem dX5_at_1 : decode cX5_at 1 = .ok (.getfield 9, 3) := dk_180 0 9 (dk_at dksX5_at_0 1 rfl rfl)
theorem dX5_at_4 : decode cX5_at 4 = .ok (.iload_n 1, 1) := dk_27 (dk_at dksX5_at_0 4 rfl rfl)
theorem dX5_at_5 : decode cX5_at 5 = .ok (.daload, 1) := dk_49 (dk_at dksX5_at_0 5 rfl rfl)
theorem dX5_at_6 : decode cX5_at 6 = .ok (.dreturn, 1) := dk_175 (dk_at dksX5_at_0 6 rfl rfl)
abbrev cX5_bits : ByteArray := prog_25_method_6_code
def yX5_bits : MethodName := ⟨RX5, "bits", "(D)J"⟩
theorem dX5_bits_0 : decode cX5_bits 0 = .ok (.dload_n 1, 1) := by decide +kernel
theorem dX5_bits_1 : decode cX5_bits 1 = .ok (.invokestatic 20, 3) := by decide +kernel
theorem dX5_bits_4 : decode cX5_bits 4 = .ok (.lreturn, 1) := by decide +kernel
abbrev cX5_isWide : ByteArray := prog_25_method_2_code
def yX5_isWide : MethodName := ⟨RX5, "isWide", "()Z"⟩
theorem dX5_isWide_0 : decode cX5_isWide 0 = .ok (.iconst 1, 1) := by decide +kernel
theorem dX5_isWide_1 : decode cX5_isWide 1 = .ok (.ireturn, 1) := by decide +kernel
abbrev cX5_least : ByteArray := prog_25_method_11_code
def yX5_least : MethodName := ⟨RX5, "least", "()D"⟩
theorem dX5_least_0 : decode cX5_least 0 = .ok (.ldc2_w 64, 3) := by decide +kernel
theorem dX5_least_3 : decode cX5_least 3 = .ok (.dreturn, 1) := by decide +kernel
abbrev cX5_another : ByteArray := prog_25_method_3_code
def yX5_another : MethodName := ⟨RX5, "another", "(I)LRoundingAuditor$Ledger;"⟩
def dkwX5_another_0 : List UInt8 := [187, 0, 10, 89, 27, 183, 0, 15, 176]
abbrev dktX5_another_0 : List UInt8 := dkwX5_another_0 ++ []
theorem dksX5_another_0 : cX5_another.data.toList.drop 0 = dktX5_another_0 := by decide +kernel
theorem dX5_another_0 : decode cX5_another 0 = .ok (.new 10, 3) := dk_187 0 10 (dk_at dksX5_another_0 0 rfl rfl)
theorem dX5_another_3 : decode cX5_another 3 = .ok (.dup, 1) := dk_89 (dk_at dksX5_another_0 3 rfl rfl)
theorem dX5_another_4 : decode cX5_another 4 = .ok (.iload_n 1, 1) := dk_27 (dk_at dksX5_another_0 4 rfl rfl)
theorem dX5_another_5 : decode cX5_another 5 = .ok (.invokespecial 15, 3) := dk_183 0 15 (dk_at dksX5_another_0 5 rfl rfl)
theorem dX5_another_8 : decode cX5_another 8 = .ok (.areturn, 1) := dk_176 (dk_at dksX5_another_0 8 rfl rfl)
abbrev cX5_worked : ByteArray := prog_25_method_8_code
def yX5_worked : MethodName := ⟨RX5, "worked", "(DDI)D"⟩
def dkwX5_worked_3 : List UInt8 := [175, 39, 41, 184, 0, 48, 175, 39, 41, 184, 0, 52, 175, 39, 41, 184, 0, 55, 175, 39, 41, 115, 175]
abbrev dktX5_worked_3 : List UInt8 := dkwX5_worked_3 ++ []
def dkwX5_worked_2 : List UInt8 := [39, 184, 0, 30, 175, 39, 184, 0, 36, 175, 39, 184, 0, 39, 175, 39, 184, 0, 42, 175, 39, 184, 0, 45]
abbrev dktX5_worked_2 : List UInt8 := dkwX5_worked_2 ++ dktX5_worked_3
def dkwX5_worked_1 : List UInt8 := [170, 0, 0, 0, 0, 89, 0, 0, 0, 0, 0, 0, 0, 7, 0, 0, 0, 46, 0, 0, 0, 51, 0, 0, 0, 56, 0, 0, 0, 61, 0, 0, 0, 66, 0, 0, 0, 71, 0, 0, 0, 77, 0, 0, 0, 83]
abbrev dktX5_worked_1 : List UInt8 := dkwX5_worked_1 ++ dktX5_worked_2
def dkwX5_worked_0 : List UInt8 := [21, 5]
abbrev dktX5_worked_0 : List UInt8 := dkwX5_worked_0 ++ dktX5_worked_1
theorem dksX5_worked_0 : cX5_worked.data.toList.drop 0 = dktX5_worked_0 := by decide +kernel
theorem dksX5_worked_1 : cX5_worked.data.toList.drop 2 = dktX5_worked_1 := dk_seg dksX5_worked_0 2 rfl rfl
theorem dksX5_worked_2 : cX5_worked.data.toList.drop 48 = dktX5_worked_2 := dk_seg dksX5_worked_1 46 rfl rfl
theorem dksX5_worked_3 : cX5_worked.data.toList.drop 72 = dktX5_worked_3 := dk_seg dksX5_worked_2 24 rfl rfl
theorem dX5_worked_0 : decode cX5_worked 0 = .ok (.iload 5, 2) := dk_21 5 (dk_at dksX5_worked_0 0 rfl rfl)
theorem dX5_worked_2 : decode cX5_worked 2 = .ok (.tableswitch 89 0 7 #[46, 51, 56, 61, 66, 71, 77, 83], 46) := by decide +kernel
theorem dX5_worked_48 : decode cX5_worked 48 = .ok (.dload_n 1, 1) := dk_39 (dk_at dksX5_worked_2 0 rfl rfl)
theorem dX5_worked_49 : decode cX5_worked 49 = .ok (.invokestatic 30, 3) := dk_184 0 30 (dk_at dksX5_worked_2 1 rfl rfl)
theorem dX5_worked_52 : decode cX5_worked 52 = .ok (.dreturn, 1) := dk_175 (dk_at dksX5_worked_2 4 rfl rfl)
theorem dX5_worked_53 : decode cX5_worked 53 = .ok (.dload_n 1, 1) := dk_39 (dk_at dksX5_worked_2 5 rfl rfl)
theorem dX5_worked_54 : decode cX5_worked 54 = .ok (.invokestatic 36, 3) := dk_184 0 36 (dk_at dksX5_worked_2 6 rfl rfl)
theorem dX5_worked_57 : decode cX5_worked 57 = .ok (.dreturn, 1) := dk_175 (dk_at dksX5_worked_2 9 rfl rfl)
theorem dX5_worked_58 : decode cX5_worked 58 = .ok (.dload_n 1, 1) := dk_39 (dk_at dksX5_worked_2 10 rfl rfl)
theorem dX5_worked_59 : decode cX5_worked 59 = .ok (.invokestatic 39, 3) := dk_184 0 39 (dk_at dksX5_worked_2 11 rfl rfl)
theorem dX5_worked_62 : decode cX5_worked 62 = .ok (.dreturn, 1) := dk_175 (dk_at dksX5_worked_2 14 rfl rfl)
theorem dX5_worked_63 : decode cX5_worked 63 = .ok (.dload_n 1, 1) := dk_39 (dk_at dksX5_worked_2 15 rfl rfl)
theorem dX5_worked_64 : decode cX5_worked 64 = .ok (.invokestatic 42, 3) := dk_184 0 42 (dk_at dksX5_worked_2 16 rfl rfl)
theorem dX5_worked_67 : decode cX5_worked 67 = .ok (.dreturn, 1) := dk_175 (dk_at dksX5_worked_2 19 rfl rfl)
theorem dX5_worked_68 : decode cX5_worked 68 = .ok (.dload_n 1, 1) := dk_39 (dk_at dksX5_worked_2 20 rfl rfl)
theorem dX5_worked_69 : decode cX5_worked 69 = .ok (.invokestatic 45, 3) := dk_184 0 45 (dk_at dksX5_worked_2 21 rfl rfl)
theorem dX5_worked_72 : decode cX5_worked 72 = .ok (.dreturn, 1) := dk_175 (dk_at dksX5_worked_3 0 rfl rfl)
theorem dX5_worked_73 : decode cX5_worked 73 = .ok (.dload_n 1, 1) := dk_39 (dk_at dksX5_worked_3 1 rfl rfl)
theorem dX5_worked_74 : decode cX5_worked 74 = .ok (.dload_n 3, 1) := dk_41 (dk_at dksX5_worked_3 2 rfl rfl)
theorem dX5_worked_75 : decode cX5_worked 75 = .ok (.invokestatic 48, 3) := dk_184 0 48 (dk_at dksX5_worked_3 3 rfl rfl)
theorem dX5_worked_78 : decode cX5_worked 78 = .ok (.dreturn, 1) := dk_175 (dk_at dksX5_worked_3 6 rfl rfl)
theorem dX5_worked_79 : decode cX5_worked 79 = .ok (.dload_n 1, 1) := dk_39 (dk_at dksX5_worked_3 7 rfl rfl)
theorem dX5_worked_80 : decode cX5_worked 80 = .ok (.dload_n 3, 1) := dk_41 (dk_at dksX5_worked_3 8 rfl rfl)
theorem dX5_worked_81 : decode cX5_worked 81 = .ok (.invokestatic 52, 3) := dk_184 0 52 (dk_at dksX5_worked_3 9 rfl rfl)
theorem dX5_worked_84 : decode cX5_worked 84 = .ok (.dreturn, 1) := dk_175 (dk_at dksX5_worked_3 12 rfl rfl)
theorem dX5_worked_85 : decode cX5_worked 85 = .ok (.dload_n 1, 1) := dk_39 (dk_at dksX5_worked_3 13 rfl rfl)
theorem dX5_worked_86 : decode cX5_worked 86 = .ok (.dload_n 3, 1) := dk_41 (dk_at dksX5_worked_3 14 rfl rfl)
theorem dX5_worked_87 : decode cX5_worked 87 = .ok (.invokestatic 55, 3) := dk_184 0 55 (dk_at dksX5_worked_3 15 rfl rfl)
theorem dX5_worked_90 : decode cX5_worked 90 = .ok (.dreturn, 1) := dk_175 (dk_at dksX5_worked_3 18 rfl rfl)
theorem dX5_worked_91 : decode cX5_worked 91 = .ok (.dload_n 1, 1) := dk_39 (dk_at dksX5_worked_3 19 rfl rfl)
theorem dX5_worked_92 : decode cX5_worked 92 = .ok (.dload_n 3, 1) := dk_41 (dk_at dksX5_worked_3 20 rfl rfl)
theorem dX5_worked_93 : decode cX5_worked 93 = .ok (.drem, 1) := dk_115 (dk_at dksX5_worked_3 21 rfl rfl)
theorem dX5_worked_94 : decode cX5_worked 94 = .ok (.dreturn, 1) := dk_175 (dk_at dksX5_worked_3 22 rfl rfl)
abbrev cX5_whole : ByteArray := prog_25_method_9_code
def yX5_whole : MethodName := ⟨RX5, "whole", "(DI)J"⟩
def dkwX5_whole_1 : List UInt8 := [160, 0, 10, 39, 142, 147, 133, 167, 0, 6, 39, 144, 140, 173]
abbrev dktX5_whole_1 : List UInt8 := dkwX5_whole_1 ++ []
def dkwX5_whole_0 : List UInt8 := [29, 154, 0, 8, 39, 143, 167, 0, 29, 29, 4, 160, 0, 9, 39, 142, 133, 167, 0, 18, 29, 5]
abbrev dktX5_whole_0 : List UInt8 := dkwX5_whole_0 ++ dktX5_whole_1
theorem dksX5_whole_0 : cX5_whole.data.toList.drop 0 = dktX5_whole_0 := by decide +kernel
theorem dksX5_whole_1 : cX5_whole.data.toList.drop 22 = dktX5_whole_1 := dk_seg dksX5_whole_0 22 rfl rfl
theorem dX5_whole_0 : decode cX5_whole 0 = .ok (.iload_n 3, 1) := dk_29 (dk_at dksX5_whole_0 0 rfl rfl)
theorem dX5_whole_1 : decode cX5_whole 1 = .ok (.ifCond .ne 8, 3) := dk_154 0 8 (dk_at dksX5_whole_0 1 rfl rfl)
theorem dX5_whole_4 : decode cX5_whole 4 = .ok (.dload_n 1, 1) := dk_39 (dk_at dksX5_whole_0 4 rfl rfl)
theorem dX5_whole_5 : decode cX5_whole 5 = .ok (.d2l, 1) := dk_143 (dk_at dksX5_whole_0 5 rfl rfl)
theorem dX5_whole_6 : decode cX5_whole 6 = .ok (.goto 29, 3) := dk_167 0 29 (dk_at dksX5_whole_0 6 rfl rfl)
theorem dX5_whole_9 : decode cX5_whole 9 = .ok (.iload_n 3, 1) := dk_29 (dk_at dksX5_whole_0 9 rfl rfl)
theorem dX5_whole_10 : decode cX5_whole 10 = .ok (.iconst 1, 1) := dk_4 (dk_at dksX5_whole_0 10 rfl rfl)
theorem dX5_whole_11 : decode cX5_whole 11 = .ok (.if_icmp .ne 9, 3) := dk_160 0 9 (dk_at dksX5_whole_0 11 rfl rfl)
theorem dX5_whole_14 : decode cX5_whole 14 = .ok (.dload_n 1, 1) := dk_39 (dk_at dksX5_whole_0 14 rfl rfl)
theorem dX5_whole_15 : decode cX5_whole 15 = .ok (.d2i, 1) := dk_142 (dk_at dksX5_whole_0 15 rfl rfl)
theorem dX5_whole_16 : decode cX5_whole 16 = .ok (.i2l, 1) := dk_133 (dk_at dksX5_whole_0 16 rfl rfl)
theorem dX5_whole_17 : decode cX5_whole 17 = .ok (.goto 18, 3) := dk_167 0 18 (dk_at dksX5_whole_0 17 rfl rfl)
theorem dX5_whole_20 : decode cX5_whole 20 = .ok (.iload_n 3, 1) := dk_29 (dk_at dksX5_whole_0 20 rfl rfl)
theorem dX5_whole_21 : decode cX5_whole 21 = .ok (.iconst 2, 1) := dk_5 (dk_at dksX5_whole_0 21 rfl rfl)
theorem dX5_whole_22 : decode cX5_whole 22 = .ok (.if_icmp .ne 10, 3) := dk_160 0 10 (dk_at dksX5_whole_1 0 rfl rfl)
theorem dX5_whole_25 : decode cX5_whole 25 = .ok (.dload_n 1, 1) := dk_39 (dk_at dksX5_whole_1 3 rfl rfl)
theorem dX5_whole_26 : decode cX5_whole 26 = .ok (.d2i, 1) := dk_142 (dk_at dksX5_whole_1 4 rfl rfl)
theorem dX5_whole_27 : decode cX5_whole 27 = .ok (.i2s, 1) := dk_147 (dk_at dksX5_whole_1 5 rfl rfl)
theorem dX5_whole_28 : decode cX5_whole 28 = .ok (.i2l, 1) := dk_133 (dk_at dksX5_whole_1 6 rfl rfl)
theorem dX5_whole_29 : decode cX5_whole 29 = .ok (.goto 6, 3) := dk_167 0 6 (dk_at dksX5_whole_1 7 rfl rfl)
theorem dX5_whole_32 : decode cX5_whole 32 = .ok (.dload_n 1, 1) := dk_39 (dk_at dksX5_whole_1 10 rfl rfl)
theorem dX5_whole_33 : decode cX5_whole 33 = .ok (.d2f, 1) := dk_144 (dk_at dksX5_whole_1 11 rfl rfl)
theorem dX5_whole_34 : decode cX5_whole 34 = .ok (.f2l, 1) := dk_140 (dk_at dksX5_whole_1 12 rfl rfl)
theorem dX5_whole_35 : decode cX5_whole 35 = .ok (.lreturn, 1) := dk_173 (dk_at dksX5_whole_1 13 rfl rfl)
abbrev cX5_add : ByteArray := prog_25_method_7_code
def yX5_add : MethodName := ⟨RX5, "add", "(DD)D"⟩
def dkwX5_add_0 : List UInt8 := [39, 41, 99, 175]
abbrev dktX5_add_0 : List UInt8 := dkwX5_add_0 ++ []
theorem dksX5_add_0 : cX5_add.data.toList.drop 0 = dktX5_add_0 := by decide +kernel
theorem dX5_add_0 : decode cX5_add 0 = .ok (.dload_n 1, 1) := dk_39 (dk_at dksX5_add_0 0 rfl rfl)
theorem dX5_add_1 : decode cX5_add 1 = .ok (.dload_n 3, 1) := dk_41 (dk_at dksX5_add_0 1 rfl rfl)
theorem dX5_add_2 : decode cX5_add 2 = .ok (.dadd, 1) := dk_99 (dk_at dksX5_add_0 2 rfl rfl)
theorem dX5_add_3 : decode cX5_add 3 = .ok (.dreturn, 1) := dk_175 (dk_at dksX5_add_0 3 rfl rfl)
abbrev cX5_nearest : ByteArray := prog_25_method_10_code
def yX5_nearest : MethodName := ⟨RX5, "nearest", "(LRoundingAuditor$Exact;)D"⟩
theorem dX5_nearest_0 : decode cX5_nearest 0 = .ok (.aload_n 1, 1) := by decide +kernel
theorem dX5_nearest_1 : decode cX5_nearest 1 = .ok (.invokevirtual 58, 3) := by decide +kernel
theorem dX5_nearest_4 : decode cX5_nearest 4 = .ok (.dreturn, 1) := by decide +kernel
theorem q79 : (Jvm.Cond.initialized "RoundingAuditor$Wide") ∈ lw_all := lw_g (lw_at lw_m1 15 rfl) rfl
theorem q505 : (Jvm.Cond.instantiable "RoundingAuditor$Wide" (5 : Nat)) ∈ lw_all := lw_g (lw_at lw_m2 201 rfl) rfl
theorem q507 : (Jvm.Cond.instanceMethod ({ cls := "RoundingAuditor$Wide", name := "<init>", desc := "(I)V" } : Jvm.MethodName)) ∈ lw_all := lw_g (lw_at lw_m2 203 rfl) rfl
theorem q508 : (Jvm.Cond.code ({ cls := "RoundingAuditor$Wide", name := "<init>", desc := "(I)V" } : Jvm.MethodName) prog_25_method_1_code (2 : Nat) (Option.none : Option Jvm.ClassFile.FieldType)) ∈ lw_all := lw_g (lw_at lw_m2 204 rfl) rfl
theorem q509 : (Jvm.Cond.methodLink "RoundingAuditor$Wide" (3 : Nat) ({ cls := "RoundingAuditor$Ledger", name := "<init>", desc := "(I)V" } : Jvm.MethodName)) ∈ lw_all := lw_g (lw_at lw_m2 205 rfl) rfl
theorem q513 : (Jvm.Cond.fieldLink "RoundingAuditor$Wide" (9 : Nat) "RoundingAuditor$Wide" "amounts" "[D") ∈ lw_all := lw_g (lw_at lw_m2 209 rfl) rfl
theorem q518 : (Jvm.Cond.laysFinal "RoundingAuditor$Wide" "RoundingAuditor$Wide" "amounts" "[D") ∈ lw_all := lw_g (lw_at lw_m2 214 rfl) rfl
theorem q519 : (Jvm.Cond.soleField "RoundingAuditor$Wide" "amounts") ∈ lw_all := lw_g (lw_at lw_m2 215 rfl) rfl
theorem q520 : (Jvm.Cond.laysFinal "RoundingAuditor$Wide" "RoundingAuditor$Ledger" "accounts" "[B") ∈ lw_all := lw_g (lw_at lw_m2 216 rfl) rfl
theorem q522 : (Jvm.Cond.laysFinal "RoundingAuditor$Wide" "RoundingAuditor$Ledger" "days" "[B") ∈ lw_all := lw_g (lw_at lw_m2 218 rfl) rfl
theorem q524 : (Jvm.Cond.laysFinal "RoundingAuditor$Wide" "RoundingAuditor$Ledger" "given" "[B") ∈ lw_all := lw_g (lw_at lw_m2 220 rfl) rfl
theorem q526 : (Jvm.Cond.lays "RoundingAuditor$Wide" "RoundingAuditor$Ledger" "givenCount" "I") ∈ lw_all := lw_g (lw_at lw_m2 222 rfl) rfl
theorem q528 : (Jvm.Cond.superclass "RoundingAuditor$Wide" "RoundingAuditor$Ledger") ∈ lw_all := lw_g (lw_at lw_m2 224 rfl) rfl
theorem q589 : (Jvm.Cond.selects "RoundingAuditor$Wide" ({ cls := "RoundingAuditor$Ledger", name := "put", desc := "(IJ)Z" } : Jvm.MethodName) ({ cls := "RoundingAuditor$Wide", name := "put", desc := "(IJ)Z" } : Jvm.MethodName)) ∈ lw_all := lw_g (lw_at lw_m3 45 rfl) rfl
theorem q590 : (Jvm.Cond.instanceMethod ({ cls := "RoundingAuditor$Wide", name := "put", desc := "(IJ)Z" } : Jvm.MethodName)) ∈ lw_all := lw_g (lw_at lw_m3 46 rfl) rfl
theorem q591 : (Jvm.Cond.code ({ cls := "RoundingAuditor$Wide", name := "put", desc := "(IJ)Z" } : Jvm.MethodName) prog_25_method_5_code (6 : Nat) (Option.some Jvm.ClassFile.FieldType.boolean)) ∈ lw_all := lw_g (lw_at lw_m3 47 rfl) rfl
theorem q592 : (Jvm.Cond.constantLong "RoundingAuditor$Wide" (16 : Nat) (9223372036854775807 : Int64)) ∈ lw_all := lw_g (lw_at lw_m3 48 rfl) rfl
theorem q593 : (Jvm.Cond.constantDouble "RoundingAuditor$Wide" (18 : Nat) (5057542381537067008 : UInt64)) ∈ lw_all := lw_g (lw_at lw_m3 49 rfl) rfl
theorem q594 : (Jvm.Cond.methodLink "RoundingAuditor$Wide" (20 : Nat) ({ cls := "java/lang/Double", name := "doubleToLongBits", desc := "(D)J" } : Jvm.MethodName)) ∈ lw_all := lw_g (lw_at lw_m3 50 rfl) rfl
theorem q595 : (Jvm.Cond.methodLink "RoundingAuditor$Wide" (26 : Nat) ({ cls := "java/lang/Double", name := "longBitsToDouble", desc := "(J)D" } : Jvm.MethodName)) ∈ lw_all := lw_g (lw_at lw_m3 51 rfl) rfl
theorem q608 : (Jvm.Cond.selects "RoundingAuditor$Wide" ({ cls := "RoundingAuditor$Ledger", name := "book", desc := "(III)V" } : Jvm.MethodName) ({ cls := "RoundingAuditor$Ledger", name := "book", desc := "(III)V" } : Jvm.MethodName)) ∈ lw_all := lw_g (lw_at lw_m3 64 rfl) rfl
theorem q623 : (Jvm.Cond.selects "RoundingAuditor$Wide" ({ cls := "RoundingAuditor$Ledger", name := "at", desc := "(I)D" } : Jvm.MethodName) ({ cls := "RoundingAuditor$Wide", name := "at", desc := "(I)D" } : Jvm.MethodName)) ∈ lw_all := lw_g (lw_at lw_m3 79 rfl) rfl
theorem q624 : (Jvm.Cond.instanceMethod ({ cls := "RoundingAuditor$Wide", name := "at", desc := "(I)D" } : Jvm.MethodName)) ∈ lw_all := lw_g (lw_at lw_m3 80 rfl) rfl
theorem q625 : (Jvm.Cond.code ({ cls := "RoundingAuditor$Wide", name := "at", desc := "(I)D" } : Jvm.MethodName) prog_25_method_4_code (2 : Nat) (Option.some Jvm.ClassFile.FieldType.double)) ∈ lw_all := lw_g (lw_at lw_m3 81 rfl) rfl
theorem q632 : (Jvm.Cond.selects "RoundingAuditor$Wide" ({ cls := "RoundingAuditor$Ledger", name := "bits", desc := "(D)J" } : Jvm.MethodName) ({ cls := "RoundingAuditor$Wide", name := "bits", desc := "(D)J" } : Jvm.MethodName)) ∈ lw_all := lw_g (lw_at lw_m3 88 rfl) rfl
theorem q633 : (Jvm.Cond.instanceMethod ({ cls := "RoundingAuditor$Wide", name := "bits", desc := "(D)J" } : Jvm.MethodName)) ∈ lw_all := lw_g (lw_at lw_m3 89 rfl) rfl
theorem q634 : (Jvm.Cond.code ({ cls := "RoundingAuditor$Wide", name := "bits", desc := "(D)J" } : Jvm.MethodName) prog_25_method_6_code (3 : Nat) (Option.some Jvm.ClassFile.FieldType.long)) ∈ lw_all := lw_g (lw_at lw_m3 90 rfl) rfl
theorem q646 : (Jvm.Cond.selects "RoundingAuditor$Wide" ({ cls := "RoundingAuditor$Ledger", name := "account", desc := "(I)I" } : Jvm.MethodName) ({ cls := "RoundingAuditor$Ledger", name := "account", desc := "(I)I" } : Jvm.MethodName)) ∈ lw_all := lw_g (lw_at lw_m3 102 rfl) rfl
theorem q652 : (Jvm.Cond.selects "RoundingAuditor$Wide" ({ cls := "RoundingAuditor$Ledger", name := "day", desc := "(I)I" } : Jvm.MethodName) ({ cls := "RoundingAuditor$Ledger", name := "day", desc := "(I)I" } : Jvm.MethodName)) ∈ lw_all := lw_g (lw_at lw_m3 108 rfl) rfl
theorem q665 : (Jvm.Cond.selects "RoundingAuditor$Wide" ({ cls := "RoundingAuditor$Ledger", name := "length", desc := "()I" } : Jvm.MethodName) ({ cls := "RoundingAuditor$Ledger", name := "length", desc := "()I" } : Jvm.MethodName)) ∈ lw_all := lw_g (lw_at lw_m3 121 rfl) rfl
theorem q673 : (Jvm.Cond.selects "RoundingAuditor$Wide" ({ cls := "RoundingAuditor$Ledger", name := "isWide", desc := "()Z" } : Jvm.MethodName) ({ cls := "RoundingAuditor$Wide", name := "isWide", desc := "()Z" } : Jvm.MethodName)) ∈ lw_all := lw_g (lw_at lw_m3 129 rfl) rfl
theorem q674 : (Jvm.Cond.instanceMethod ({ cls := "RoundingAuditor$Wide", name := "isWide", desc := "()Z" } : Jvm.MethodName)) ∈ lw_all := lw_g (lw_at lw_m3 130 rfl) rfl
theorem q675 : (Jvm.Cond.code ({ cls := "RoundingAuditor$Wide", name := "isWide", desc := "()Z" } : Jvm.MethodName) prog_25_method_2_code (1 : Nat) (Option.some Jvm.ClassFile.FieldType.boolean)) ∈ lw_all := lw_g (lw_at lw_m3 131 rfl) rfl
theorem q699 : (Jvm.Cond.selects "RoundingAuditor$Wide" ({ cls := "RoundingAuditor$Ledger", name := "least", desc := "()D" } : Jvm.MethodName) ({ cls := "RoundingAuditor$Wide", name := "least", desc := "()D" } : Jvm.MethodName)) ∈ lw_all := lw_g (lw_at lw_m3 155 rfl) rfl
theorem q700 : (Jvm.Cond.instanceMethod ({ cls := "RoundingAuditor$Wide", name := "least", desc := "()D" } : Jvm.MethodName)) ∈ lw_all := lw_g (lw_at lw_m3 156 rfl) rfl
theorem q701 : (Jvm.Cond.code ({ cls := "RoundingAuditor$Wide", name := "least", desc := "()D" } : Jvm.MethodName) prog_25_method_11_code (1 : Nat) (Option.some Jvm.ClassFile.FieldType.double)) ∈ lw_all := lw_g (lw_at lw_m3 157 rfl) rfl
theorem q702 : (Jvm.Cond.constantDouble "RoundingAuditor$Wide" (64 : Nat) (4503599627370496 : UInt64)) ∈ lw_all := lw_g (lw_at lw_m3 158 rfl) rfl
theorem q719 : (Jvm.Cond.selects "RoundingAuditor$Wide" ({ cls := "RoundingAuditor$Ledger", name := "another", desc := "(I)LRoundingAuditor$Ledger;" } : Jvm.MethodName) ({ cls := "RoundingAuditor$Wide", name := "another", desc := "(I)LRoundingAuditor$Ledger;" } : Jvm.MethodName)) ∈ lw_all := lw_g (lw_at lw_m3 175 rfl) rfl
theorem q720 : (Jvm.Cond.instanceMethod ({ cls := "RoundingAuditor$Wide", name := "another", desc := "(I)LRoundingAuditor$Ledger;" } : Jvm.MethodName)) ∈ lw_all := lw_g (lw_at lw_m3 176 rfl) rfl
theorem q721 : (Jvm.Cond.code ({ cls := "RoundingAuditor$Wide", name := "another", desc := "(I)LRoundingAuditor$Ledger;" } : Jvm.MethodName) prog_25_method_3_code (2 : Nat) (Option.some (Jvm.ClassFile.FieldType.object "RoundingAuditor$Ledger"))) ∈ lw_all := lw_g (lw_at lw_m3 177 rfl) rfl
theorem q722 : (Jvm.Cond.classLink "RoundingAuditor$Wide" (10 : Nat) "RoundingAuditor$Wide") ∈ lw_all := lw_g (lw_at lw_m3 178 rfl) rfl
theorem q723 : (Jvm.Cond.methodLink "RoundingAuditor$Wide" (15 : Nat) ({ cls := "RoundingAuditor$Wide", name := "<init>", desc := "(I)V" } : Jvm.MethodName)) ∈ lw_all := lw_g (lw_at lw_m3 179 rfl) rfl
theorem q728 : (Jvm.Cond.selects "RoundingAuditor$Wide" ({ cls := "RoundingAuditor$Ledger", name := "copy", desc := "(ILRoundingAuditor$Ledger;I)V" } : Jvm.MethodName) ({ cls := "RoundingAuditor$Ledger", name := "copy", desc := "(ILRoundingAuditor$Ledger;I)V" } : Jvm.MethodName)) ∈ lw_all := lw_g (lw_at lw_m3 184 rfl) rfl
theorem q754 : (Jvm.Cond.selects "RoundingAuditor$Wide" ({ cls := "RoundingAuditor$Ledger", name := "isLike", desc := "(LRoundingAuditor$Ledger;)Z" } : Jvm.MethodName) ({ cls := "RoundingAuditor$Ledger", name := "isLike", desc := "(LRoundingAuditor$Ledger;)Z" } : Jvm.MethodName)) ∈ lw_all := lw_g (lw_at lw_m3 210 rfl) rfl
theorem q843 : (Jvm.Cond.selects "RoundingAuditor$Wide" ({ cls := "RoundingAuditor$Ledger", name := "worked", desc := "(DDI)D" } : Jvm.MethodName) ({ cls := "RoundingAuditor$Wide", name := "worked", desc := "(DDI)D" } : Jvm.MethodName)) ∈ lw_all := lw_g (lw_at lw_m4 59 rfl) rfl
theorem q844 : (Jvm.Cond.instanceMethod ({ cls := "RoundingAuditor$Wide", name := "worked", desc := "(DDI)D" } : Jvm.MethodName)) ∈ lw_all := lw_g (lw_at lw_m4 60 rfl) rfl
theorem q845 : (Jvm.Cond.code ({ cls := "RoundingAuditor$Wide", name := "worked", desc := "(DDI)D" } : Jvm.MethodName) prog_25_method_8_code (6 : Nat) (Option.some Jvm.ClassFile.FieldType.double)) ∈ lw_all := lw_g (lw_at lw_m4 61 rfl) rfl
theorem q846 : (Jvm.Cond.methodLink "RoundingAuditor$Wide" (30 : Nat) ({ cls := "java/lang/Math", name := "floor", desc := "(D)D" } : Jvm.MethodName)) ∈ lw_all := lw_g (lw_at lw_m4 62 rfl) rfl
theorem q847 : (Jvm.Cond.methodLink "RoundingAuditor$Wide" (36 : Nat) ({ cls := "java/lang/Math", name := "ceil", desc := "(D)D" } : Jvm.MethodName)) ∈ lw_all := lw_g (lw_at lw_m4 63 rfl) rfl
theorem q848 : (Jvm.Cond.methodLink "RoundingAuditor$Wide" (39 : Nat) ({ cls := "java/lang/Math", name := "rint", desc := "(D)D" } : Jvm.MethodName)) ∈ lw_all := lw_g (lw_at lw_m4 64 rfl) rfl
theorem q849 : (Jvm.Cond.methodLink "RoundingAuditor$Wide" (42 : Nat) ({ cls := "java/lang/Math", name := "abs", desc := "(D)D" } : Jvm.MethodName)) ∈ lw_all := lw_g (lw_at lw_m4 65 rfl) rfl
theorem q850 : (Jvm.Cond.methodLink "RoundingAuditor$Wide" (45 : Nat) ({ cls := "java/lang/Math", name := "signum", desc := "(D)D" } : Jvm.MethodName)) ∈ lw_all := lw_g (lw_at lw_m4 66 rfl) rfl
theorem q855 : (Jvm.Cond.methodLink "RoundingAuditor$Wide" (48 : Nat) ({ cls := "java/lang/Math", name := "copySign", desc := "(DD)D" } : Jvm.MethodName)) ∈ lw_all := lw_g (lw_at lw_m4 71 rfl) rfl
theorem q856 : (Jvm.Cond.methodLink "RoundingAuditor$Wide" (52 : Nat) ({ cls := "java/lang/Math", name := "min", desc := "(DD)D" } : Jvm.MethodName)) ∈ lw_all := lw_g (lw_at lw_m4 72 rfl) rfl
theorem q859 : (Jvm.Cond.methodLink "RoundingAuditor$Wide" (55 : Nat) ({ cls := "java/lang/Math", name := "max", desc := "(DD)D" } : Jvm.MethodName)) ∈ lw_all := lw_g (lw_at lw_m4 75 rfl) rfl
theorem q874 : (Jvm.Cond.selects "RoundingAuditor$Wide" ({ cls := "RoundingAuditor$Ledger", name := "whole", desc := "(DI)J" } : Jvm.MethodName) ({ cls := "RoundingAuditor$Wide", name := "whole", desc := "(DI)J" } : Jvm.MethodName)) ∈ lw_all := lw_g (lw_at lw_m4 90 rfl) rfl
theorem q875 : (Jvm.Cond.instanceMethod ({ cls := "RoundingAuditor$Wide", name := "whole", desc := "(DI)J" } : Jvm.MethodName)) ∈ lw_all := lw_g (lw_at lw_m4 91 rfl) rfl
theorem q876 : (Jvm.Cond.code ({ cls := "RoundingAuditor$Wide", name := "whole", desc := "(DI)J" } : Jvm.MethodName) prog_25_method_9_code (4 : Nat) (Option.some Jvm.ClassFile.FieldType.long)) ∈ lw_all := lw_g (lw_at lw_m4 92 rfl) rfl
theorem q923 : (Jvm.Cond.selects "RoundingAuditor$Wide" ({ cls := "RoundingAuditor$Ledger", name := "give", desc := "(I)Z" } : Jvm.MethodName) ({ cls := "RoundingAuditor$Ledger", name := "give", desc := "(I)Z" } : Jvm.MethodName)) ∈ lw_all := lw_g (lw_at lw_m4 139 rfl) rfl
theorem q929 : (Jvm.Cond.selects "RoundingAuditor$Wide" ({ cls := "RoundingAuditor$Ledger", name := "givenCount", desc := "()I" } : Jvm.MethodName) ({ cls := "RoundingAuditor$Ledger", name := "givenCount", desc := "()I" } : Jvm.MethodName)) ∈ lw_all := lw_g (lw_at lw_m4 145 rfl) rfl
theorem q1151 : (Jvm.Cond.selects "RoundingAuditor$Wide" ({ cls := "RoundingAuditor$Adder", name := "add", desc := "(DD)D" } : Jvm.MethodName) ({ cls := "RoundingAuditor$Wide", name := "add", desc := "(DD)D" } : Jvm.MethodName)) ∈ lw_all := lw_g (lw_at lw_m5 127 rfl) rfl
theorem q1152 : (Jvm.Cond.instanceMethod ({ cls := "RoundingAuditor$Wide", name := "add", desc := "(DD)D" } : Jvm.MethodName)) ∈ lw_all := lw_g (lw_at lw_m5 128 rfl) rfl
theorem q1153 : (Jvm.Cond.code ({ cls := "RoundingAuditor$Wide", name := "add", desc := "(DD)D" } : Jvm.MethodName) prog_25_method_7_code (5 : Nat) (Option.some Jvm.ClassFile.FieldType.double)) ∈ lw_all := lw_g (lw_at lw_m5 129 rfl) rfl
theorem q1205 : (Jvm.Cond.selects "RoundingAuditor$Wide" ({ cls := "RoundingAuditor$Ledger", name := "given", desc := "(I)I" } : Jvm.MethodName) ({ cls := "RoundingAuditor$Ledger", name := "given", desc := "(I)I" } : Jvm.MethodName)) ∈ lw_all := lw_g (lw_at lw_m5 181 rfl) rfl
theorem q1243 : (Jvm.Cond.castable "RoundingAuditor$Wide" "RoundingAuditor$Adder") ∈ lw_tbl := lw_at lw_m5 219 rfl
theorem q1244 : (Jvm.Cond.unhidden "RoundingAuditor$Wide" "add" "(DD)D") ∈ lw_tbl := lw_at lw_m5 220 rfl
theorem q1245 : (Jvm.Cond.publicMethod ({ cls := "RoundingAuditor$Wide", name := "add", desc := "(DD)D" } : Jvm.MethodName)) ∈ lw_tbl := lw_at lw_m5 221 rfl
theorem q1246 : (Jvm.Cond.unhidden "RoundingAuditor$Wide" "less" "(DD)D") ∈ lw_tbl := lw_at lw_m5 222 rfl
theorem q1348 : (Jvm.Cond.selects "RoundingAuditor$Wide" ({ cls := "java/lang/Object", name := "getClass", desc := "()Ljava/lang/Class;" } : Jvm.MethodName) ({ cls := "java/lang/Object", name := "getClass", desc := "()Ljava/lang/Class;" } : Jvm.MethodName)) ∈ lw_all := lw_g (lw_at lw_m6 84 rfl) rfl
theorem q1405 : (Jvm.Cond.selects "RoundingAuditor$Wide" ({ cls := "RoundingAuditor$Ledger", name := "nearest", desc := "(LRoundingAuditor$Exact;)D" } : Jvm.MethodName) ({ cls := "RoundingAuditor$Wide", name := "nearest", desc := "(LRoundingAuditor$Exact;)D" } : Jvm.MethodName)) ∈ lw_all := lw_g (lw_at lw_m6 141 rfl) rfl
theorem q1406 : (Jvm.Cond.instanceMethod ({ cls := "RoundingAuditor$Wide", name := "nearest", desc := "(LRoundingAuditor$Exact;)D" } : Jvm.MethodName)) ∈ lw_all := lw_g (lw_at lw_m6 142 rfl) rfl
theorem q1407 : (Jvm.Cond.code ({ cls := "RoundingAuditor$Wide", name := "nearest", desc := "(LRoundingAuditor$Exact;)D" } : Jvm.MethodName) prog_25_method_10_code (2 : Nat) (Option.some Jvm.ClassFile.FieldType.double)) ∈ lw_all := lw_g (lw_at lw_m6 143 rfl) rfl
theorem q1408 : (Jvm.Cond.methodLink "RoundingAuditor$Wide" (58 : Nat) ({ cls := "RoundingAuditor$Exact", name := "toDouble", desc := "()D" } : Jvm.MethodName)) ∈ lw_all := lw_g (lw_at lw_m6 144 rfl) rfl
theorem q2061 : (Jvm.Cond.castable "RoundingAuditor$Wide" "java/lang/Object") ∈ lw_tbl := lw_at lw_m9 77 rfl
theorem q2083 : (Jvm.Cond.castable "RoundingAuditor$Wide" "RoundingAuditor$Ledger") ∈ lw_tbl := lw_at lw_m9 99 rfl
theorem in_X5 : ∀ w ∈ wsX50, w ∈ lw_all := lw_in wsX50 [520, 522, 524, 526, 518] (by decide +kernel) (by decide +kernel)

/-! RoundingAuditor$Narrow -/
set_option maxRecDepth 100000
def RX6 : String := "RoundingAuditor$Narrow"
def TX6 : u_T := fun k => match k with
  | 0 => ("RoundingAuditor$Ledger", "accounts", "[B", true)
  | 1 => ("RoundingAuditor$Ledger", "days", "[B", true)
  | 2 => ("RoundingAuditor$Ledger", "given", "[B", true)
  | 3 => ("RoundingAuditor$Ledger", "givenCount", "I", false)
  | _ => ("RoundingAuditor$Narrow", "amounts", "[F", true)
def tyX6 : Nat → FieldType := fun k => match k with
  | 0 => .array .byte
  | 1 => .array .byte
  | 2 => .array .byte
  | 3 => .int
  | _ => .array .float
abbrev wsX60 : List Cond := u_ws RX6 TX6 5
theorem nmX6 : ∀ a, a < 5 → ∀ b, b < 5 → a ≠ b → (TX6 a).2.1 ≠ (TX6 b).2.1 := by decide +kernel
theorem tyX6_ok : ∀ k, k < 5 → parseFieldDescriptor (TX6 k).2.2.1 = some (tyX6 k) := by decide +kernel
abbrev cX6_init : ByteArray := prog_17_method_1_code
def yX6_init : MethodName := ⟨RX6, "<init>", "(I)V"⟩
def dkwX6_init_0 : List UInt8 := [42, 27, 183, 0, 3, 42, 27, 188, 6, 181, 0, 9, 177]
abbrev dktX6_init_0 : List UInt8 := dkwX6_init_0 ++ []
theorem dksX6_init_0 : cX6_init.data.toList.drop 0 = dktX6_init_0 := by decide +kernel
theorem dX6_init_0 : decode cX6_init 0 = .ok (.aload_n 0, 1) := dk_42 (dk_at dksX6_init_0 0 rfl rfl)
theorem dX6_init_1 : decode cX6_init 1 = .ok (.iload_n 1, 1) := dk_27 (dk_at dksX6_init_0 1 rfl rfl)
theorem dX6_init_2 : decode cX6_init 2 = .ok (.invokespecial 3, 3) := dk_183 0 3 (dk_at dksX6_init_0 2 rfl rfl)
theorem dX6_init_5 : decode cX6_init 5 = .ok (.aload_n 0, 1) := dk_42 (dk_at dksX6_init_0 5 rfl rfl)
theorem dX6_init_6 : decode cX6_init 6 = .ok (.iload_n 1, 1) := dk_27 (dk_at dksX6_init_0 6 rfl rfl)
theorem dX6_init_7 : decode cX6_init 7 = .ok (.newarray .float, 2) := dk_188_6 (dk_at dksX6_init_0 7 rfl rfl)
theorem dX6_init_9 : decode cX6_init 9 = .ok (.putfield 9, 3) := dk_181 0 9 (dk_at dksX6_init_0 9 rfl rfl)
theorem dX6_init_12 : decode cX6_init 12 = .ok (.return_, 1) := dk_177 (dk_at dksX6_init_0 12 rfl rfl)
abbrev cX6_put : ByteArray := prog_17_method_5_code
def yX6_put : MethodName := ⟨RX6, "put", "(IJ)Z"⟩
def dkwX6_put_1 : List UInt8 := [180, 0, 9, 27, 32, 136, 184, 0, 24, 81, 4, 172]
abbrev dktX6_put_1 : List UInt8 := dkwX6_put_1 ++ []
def dkwX6_put_0 : List UInt8 := [42, 180, 0, 9, 27, 48, 56, 4, 32, 136, 18, 16, 126, 18, 17, 184, 0, 18, 164, 0, 5, 3, 172, 42]
abbrev dktX6_put_0 : List UInt8 := dkwX6_put_0 ++ dktX6_put_1
theorem dksX6_put_0 : cX6_put.data.toList.drop 0 = dktX6_put_0 := by decide +kernel
theorem dksX6_put_1 : cX6_put.data.toList.drop 24 = dktX6_put_1 := dk_seg dksX6_put_0 24 rfl rfl
theorem dX6_put_0 : decode cX6_put 0 = .ok (.aload_n 0, 1) := dk_42 (dk_at dksX6_put_0 0 rfl rfl)
theorem dX6_put_1 : decode cX6_put 1 = .ok (.getfield 9, 3) := dk_180 0 9 (dk_at dksX6_put_0 1 rfl rfl)
theorem dX6_put_4 : decode cX6_put 4 = .ok (.iload_n 1, 1) := dk_27 (dk_at dksX6_put_0 4 rfl rfl)
theorem dX6_put_5 : decode cX6_put 5 = .ok (.faload, 1) := dk_48 (dk_at dksX6_put_0 5 rfl rfl)
theorem dX6_put_6 : decode cX6_put 6 = .ok (.fstore 4, 2) := dk_56 4 (dk_at dksX6_put_0 6 rfl rfl)
theorem dX6_put_8 : decode cX6_put 8 = .ok (.lload_n 2, 1) := dk_32 (dk_at dksX6_put_0 8 rfl rfl)
theorem dX6_put_9 : decode cX6_put 9 = .ok (.l2i, 1) := dk_136 (dk_at dksX6_put_0 9 rfl rfl)
theorem dX6_put_10 : decode cX6_put 10 = .ok (.ldc 16, 2) := dk_18 16 (dk_at dksX6_put_0 10 rfl rfl)
theorem dX6_put_12 : decode cX6_put 12 = .ok (.iand, 1) := dk_126 (dk_at dksX6_put_0 12 rfl rfl)
theorem dX6_put_13 : decode cX6_put 13 = .ok (.ldc 17, 2) := dk_18 17 (dk_at dksX6_put_0 13 rfl rfl)
theorem dX6_put_15 : decode cX6_put 15 = .ok (.invokestatic 18, 3) := dk_184 0 18 (dk_at dksX6_put_0 15 rfl rfl)
theorem dX6_put_18 : decode cX6_put 18 = .ok (.if_icmp .le 5, 3) := dk_164 0 5 (dk_at dksX6_put_0 18 rfl rfl)
theorem dX6_put_21 : decode cX6_put 21 = .ok (.iconst 0, 1) := dk_3 (dk_at dksX6_put_0 21 rfl rfl)
theorem dX6_put_22 : decode cX6_put 22 = .ok (.ireturn, 1) := dk_172 (dk_at dksX6_put_0 22 rfl rfl)
theorem dX6_put_23 : decode cX6_put 23 = .ok (.aload_n 0, 1) := dk_42 (dk_at dksX6_put_0 23 rfl rfl)
theorem dX6_put_24 : decode cX6_put 24 = .ok (.getfield 9, 3) := dk_180 0 9 (dk_at dksX6_put_1 0 rfl rfl)
theorem dX6_put_27 : decode cX6_put 27 = .ok (.iload_n 1, 1) := dk_27 (dk_at dksX6_put_1 3 rfl rfl)
theorem dX6_put_28 : decode cX6_put 28 = .ok (.lload_n 2, 1) := dk_32 (dk_at dksX6_put_1 4 rfl rfl)
theorem dX6_put_29 : decode cX6_put 29 = .ok (.l2i, 1) := dk_136 (dk_at dksX6_put_1 5 rfl rfl)
theorem dX6_put_30 : decode cX6_put 30 = .ok (.invokestatic 24, 3) := dk_184 0 24 (dk_at dksX6_put_1 6 rfl rfl)
theorem dX6_put_33 : decode cX6_put 33 = .ok (.fastore, 1) := dk_81 (dk_at dksX6_put_1 9 rfl rfl)
theorem dX6_put_34 : decode cX6_put 34 = .ok (.iconst 1, 1) := dk_4 (dk_at dksX6_put_1 10 rfl rfl)
theorem dX6_put_35 : decode cX6_put 35 = .ok (.ireturn, 1) := dk_172 (dk_at dksX6_put_1 11 rfl rfl)
abbrev cX6_at : ByteArray := prog_17_method_4_code
def yX6_at : MethodName := ⟨RX6, "at", "(I)D"⟩
def dkwX6_at_0 : List UInt8 := [42, 180, 0, 9, 27, 48, 141, 175]
abbrev dktX6_at_0 : List UInt8 := dkwX6_at_0 ++ []
theorem dksX6_at_0 : cX6_at.data.toList.drop 0 = dktX6_at_0 := by decide +kernel
theorem dX6_at_0 : decode cX6_at 0 = .ok (.aload_n 0, 1) := dk_42 (dk_at dksX6_at_0 0 rfl rfl)
theorem dX6_at_1 : decode cX6_at 1 = .ok (.getfield 9, 3) := dk_180 0 9 (dk_at dksX6_at_0 1 rfl rfl)
theorem dX6_at_4 : decode cX6_at 4 = .ok (.iload_n 1, 1) := dk_27 (dk_at dksX6_at_0 4 rfl rfl)
theorem dX6_at_5 : decode cX6_at 5 = .ok (.faload, 1) := dk_48 (dk_at dksX6_at_0 5 rfl rfl)
theorem dX6_at_6 : decode cX6_at 6 = .ok (.f2d, 1) := dk_141 (dk_at dksX6_at_0 6 rfl rfl)
theorem dX6_at_7 : decode cX6_at 7 = .ok (.dreturn, 1) := dk_175 (dk_at dksX6_at_0 7 rfl rfl)
abbrev cX6_bits : ByteArray := prog_17_method_6_code
def yX6_bits : MethodName := ⟨RX6, "bits", "(D)J"⟩
def dkwX6_bits_0 : List UInt8 := [39, 144, 184, 0, 18, 133, 173]
abbrev dktX6_bits_0 : List UInt8 := dkwX6_bits_0 ++ []
theorem dksX6_bits_0 : cX6_bits.data.toList.drop 0 = dktX6_bits_0 := by decide +kernel
theorem dX6_bits_0 : decode cX6_bits 0 = .ok (.dload_n 1, 1) := dk_39 (dk_at dksX6_bits_0 0 rfl rfl)
theorem dX6_bits_1 : decode cX6_bits 1 = .ok (.d2f, 1) := dk_144 (dk_at dksX6_bits_0 1 rfl rfl)
theorem dX6_bits_2 : decode cX6_bits 2 = .ok (.invokestatic 18, 3) := dk_184 0 18 (dk_at dksX6_bits_0 2 rfl rfl)
theorem dX6_bits_5 : decode cX6_bits 5 = .ok (.i2l, 1) := dk_133 (dk_at dksX6_bits_0 5 rfl rfl)
theorem dX6_bits_6 : decode cX6_bits 6 = .ok (.lreturn, 1) := dk_173 (dk_at dksX6_bits_0 6 rfl rfl)
abbrev cX6_isWide : ByteArray := prog_17_method_2_code
def yX6_isWide : MethodName := ⟨RX6, "isWide", "()Z"⟩
theorem dX6_isWide_0 : decode cX6_isWide 0 = .ok (.iconst 0, 1) := by decide +kernel
theorem dX6_isWide_1 : decode cX6_isWide 1 = .ok (.ireturn, 1) := by decide +kernel
abbrev cX6_least : ByteArray := prog_17_method_11_code
def yX6_least : MethodName := ⟨RX6, "least", "()D"⟩
theorem dX6_least_0 : decode cX6_least 0 = .ok (.ldc2_w 63, 3) := by decide +kernel
theorem dX6_least_3 : decode cX6_least 3 = .ok (.dreturn, 1) := by decide +kernel
abbrev cX6_another : ByteArray := prog_17_method_3_code
def yX6_another : MethodName := ⟨RX6, "another", "(I)LRoundingAuditor$Ledger;"⟩
def dkwX6_another_0 : List UInt8 := [187, 0, 10, 89, 27, 183, 0, 15, 176]
abbrev dktX6_another_0 : List UInt8 := dkwX6_another_0 ++ []
theorem dksX6_another_0 : cX6_another.data.toList.drop 0 = dktX6_another_0 := by decide +kernel
theorem dX6_another_0 : decode cX6_another 0 = .ok (.new 10, 3) := dk_187 0 10 (dk_at dksX6_another_0 0 rfl rfl)
theorem dX6_another_3 : decode cX6_another 3 = .ok (.dup, 1) := dk_89 (dk_at dksX6_another_0 3 rfl rfl)
theorem dX6_another_4 : decode cX6_another 4 = .ok (.iload_n 1, 1) := dk_27 (dk_at dksX6_another_0 4 rfl rfl)
theorem dX6_another_5 : decode cX6_another 5 = .ok (.invokespecial 15, 3) := dk_183 0 15 (dk_at dksX6_another_0 5 rfl rfl)
theorem dX6_another_8 : decode cX6_another 8 = .ok (.areturn, 1) := dk_176 (dk_at dksX6_another_0 8 rfl rfl)
abbrev cX6_worked : ByteArray := prog_17_method_8_code
def yX6_worked : MethodName := ⟨RX6, "worked", "(DDI)D"⟩
def dkwX6_worked_4 : List UInt8 := [23, 6, 23, 7, 184, 0, 54, 141, 175, 23, 6, 23, 7, 114, 141, 175]
abbrev dktX6_worked_4 : List UInt8 := dkwX6_worked_4 ++ []
def dkwX6_worked_3 : List UInt8 := [184, 0, 44, 141, 175, 23, 6, 23, 7, 184, 0, 47, 141, 175, 23, 6, 23, 7, 184, 0, 51, 141, 175]
abbrev dktX6_worked_3 : List UInt8 := dkwX6_worked_3 ++ dktX6_worked_4
def dkwX6_worked_2 : List UInt8 := [39, 184, 0, 28, 175, 39, 184, 0, 34, 175, 39, 184, 0, 37, 175, 23, 6, 184, 0, 40, 141, 175, 23, 6]
abbrev dktX6_worked_2 : List UInt8 := dkwX6_worked_2 ++ dktX6_worked_3
def dkwX6_worked_1 : List UInt8 := [170, 0, 0, 0, 0, 102, 0, 0, 0, 0, 0, 0, 0, 7, 0, 0, 0, 46, 0, 0, 0, 51, 0, 0, 0, 56, 0, 0, 0, 61, 0, 0, 0, 68, 0, 0, 0, 75, 0, 0, 0, 84, 0, 0, 0, 93]
abbrev dktX6_worked_1 : List UInt8 := dkwX6_worked_1 ++ dktX6_worked_2
def dkwX6_worked_0 : List UInt8 := [39, 144, 56, 6, 41, 144, 56, 7, 21, 5]
abbrev dktX6_worked_0 : List UInt8 := dkwX6_worked_0 ++ dktX6_worked_1
theorem dksX6_worked_0 : cX6_worked.data.toList.drop 0 = dktX6_worked_0 := by decide +kernel
theorem dksX6_worked_1 : cX6_worked.data.toList.drop 10 = dktX6_worked_1 := dk_seg dksX6_worked_0 10 rfl rfl
theorem dksX6_worked_2 : cX6_worked.data.toList.drop 56 = dktX6_worked_2 := dk_seg dksX6_worked_1 46 rfl rfl
theorem dksX6_worked_3 : cX6_worked.data.toList.drop 80 = dktX6_worked_3 := dk_seg dksX6_worked_2 24 rfl rfl
theorem dksX6_worked_4 : cX6_worked.data.toList.drop 103 = dktX6_worked_4 := dk_seg dksX6_worked_3 23 rfl rfl
theorem dX6_worked_0 : decode cX6_worked 0 = .ok (.dload_n 1, 1) := dk_39 (dk_at dksX6_worked_0 0 rfl rfl)
theorem dX6_worked_1 : decode cX6_worked 1 = .ok (.d2f, 1) := dk_144 (dk_at dksX6_worked_0 1 rfl rfl)
theorem dX6_worked_2 : decode cX6_worked 2 = .ok (.fstore 6, 2) := dk_56 6 (dk_at dksX6_worked_0 2 rfl rfl)
theorem dX6_worked_4 : decode cX6_worked 4 = .ok (.dload_n 3, 1) := dk_41 (dk_at dksX6_worked_0 4 rfl rfl)
theorem dX6_worked_5 : decode cX6_worked 5 = .ok (.d2f, 1) := dk_144 (dk_at dksX6_worked_0 5 rfl rfl)
theorem dX6_worked_6 : decode cX6_worked 6 = .ok (.fstore 7, 2) := dk_56 7 (dk_at dksX6_worked_0 6 rfl rfl)
theorem dX6_worked_8 : decode cX6_worked 8 = .ok (.iload 5, 2) := dk_21 5 (dk_at dksX6_worked_0 8 rfl rfl)
theorem dX6_worked_10 : decode cX6_worked 10 = .ok (.tableswitch 102 0 7 #[46, 51, 56, 61, 68, 75, 84, 93], 46) := by decide +kernel
theorem dX6_worked_56 : decode cX6_worked 56 = .ok (.dload_n 1, 1) := dk_39 (dk_at dksX6_worked_2 0 rfl rfl)
theorem dX6_worked_57 : decode cX6_worked 57 = .ok (.invokestatic 28, 3) := dk_184 0 28 (dk_at dksX6_worked_2 1 rfl rfl)
theorem dX6_worked_60 : decode cX6_worked 60 = .ok (.dreturn, 1) := dk_175 (dk_at dksX6_worked_2 4 rfl rfl)
theorem dX6_worked_61 : decode cX6_worked 61 = .ok (.dload_n 1, 1) := dk_39 (dk_at dksX6_worked_2 5 rfl rfl)
theorem dX6_worked_62 : decode cX6_worked 62 = .ok (.invokestatic 34, 3) := dk_184 0 34 (dk_at dksX6_worked_2 6 rfl rfl)
theorem dX6_worked_65 : decode cX6_worked 65 = .ok (.dreturn, 1) := dk_175 (dk_at dksX6_worked_2 9 rfl rfl)
theorem dX6_worked_66 : decode cX6_worked 66 = .ok (.dload_n 1, 1) := dk_39 (dk_at dksX6_worked_2 10 rfl rfl)
theorem dX6_worked_67 : decode cX6_worked 67 = .ok (.invokestatic 37, 3) := dk_184 0 37 (dk_at dksX6_worked_2 11 rfl rfl)
theorem dX6_worked_70 : decode cX6_worked 70 = .ok (.dreturn, 1) := dk_175 (dk_at dksX6_worked_2 14 rfl rfl)
theorem dX6_worked_71 : decode cX6_worked 71 = .ok (.fload 6, 2) := dk_23 6 (dk_at dksX6_worked_2 15 rfl rfl)
theorem dX6_worked_73 : decode cX6_worked 73 = .ok (.invokestatic 40, 3) := dk_184 0 40 (dk_at dksX6_worked_2 17 rfl rfl)
theorem dX6_worked_76 : decode cX6_worked 76 = .ok (.f2d, 1) := dk_141 (dk_at dksX6_worked_2 20 rfl rfl)
theorem dX6_worked_77 : decode cX6_worked 77 = .ok (.dreturn, 1) := dk_175 (dk_at dksX6_worked_2 21 rfl rfl)
theorem dX6_worked_78 : decode cX6_worked 78 = .ok (.fload 6, 2) := dk_23 6 (dk_at dksX6_worked_2 22 rfl rfl)
theorem dX6_worked_80 : decode cX6_worked 80 = .ok (.invokestatic 44, 3) := dk_184 0 44 (dk_at dksX6_worked_3 0 rfl rfl)
theorem dX6_worked_83 : decode cX6_worked 83 = .ok (.f2d, 1) := dk_141 (dk_at dksX6_worked_3 3 rfl rfl)
theorem dX6_worked_84 : decode cX6_worked 84 = .ok (.dreturn, 1) := dk_175 (dk_at dksX6_worked_3 4 rfl rfl)
theorem dX6_worked_85 : decode cX6_worked 85 = .ok (.fload 6, 2) := dk_23 6 (dk_at dksX6_worked_3 5 rfl rfl)
theorem dX6_worked_87 : decode cX6_worked 87 = .ok (.fload 7, 2) := dk_23 7 (dk_at dksX6_worked_3 7 rfl rfl)
theorem dX6_worked_89 : decode cX6_worked 89 = .ok (.invokestatic 47, 3) := dk_184 0 47 (dk_at dksX6_worked_3 9 rfl rfl)
theorem dX6_worked_92 : decode cX6_worked 92 = .ok (.f2d, 1) := dk_141 (dk_at dksX6_worked_3 12 rfl rfl)
theorem dX6_worked_93 : decode cX6_worked 93 = .ok (.dreturn, 1) := dk_175 (dk_at dksX6_worked_3 13 rfl rfl)
theorem dX6_worked_94 : decode cX6_worked 94 = .ok (.fload 6, 2) := dk_23 6 (dk_at dksX6_worked_3 14 rfl rfl)
theorem dX6_worked_96 : decode cX6_worked 96 = .ok (.fload 7, 2) := dk_23 7 (dk_at dksX6_worked_3 16 rfl rfl)
theorem dX6_worked_98 : decode cX6_worked 98 = .ok (.invokestatic 51, 3) := dk_184 0 51 (dk_at dksX6_worked_3 18 rfl rfl)
theorem dX6_worked_101 : decode cX6_worked 101 = .ok (.f2d, 1) := dk_141 (dk_at dksX6_worked_3 21 rfl rfl)
theorem dX6_worked_102 : decode cX6_worked 102 = .ok (.dreturn, 1) := dk_175 (dk_at dksX6_worked_3 22 rfl rfl)
theorem dX6_worked_103 : decode cX6_worked 103 = .ok (.fload 6, 2) := dk_23 6 (dk_at dksX6_worked_4 0 rfl rfl)
theorem dX6_worked_105 : decode cX6_worked 105 = .ok (.fload 7, 2) := dk_23 7 (dk_at dksX6_worked_4 2 rfl rfl)
theorem dX6_worked_107 : decode cX6_worked 107 = .ok (.invokestatic 54, 3) := dk_184 0 54 (dk_at dksX6_worked_4 4 rfl rfl)
theorem dX6_worked_110 : decode cX6_worked 110 = .ok (.f2d, 1) := dk_141 (dk_at dksX6_worked_4 7 rfl rfl)
theorem dX6_worked_111 : decode cX6_worked 111 = .ok (.dreturn, 1) := dk_175 (dk_at dksX6_worked_4 8 rfl rfl)
theorem dX6_worked_112 : decode cX6_worked 112 = .ok (.fload 6, 2) := dk_23 6 (dk_at dksX6_worked_4 9 rfl rfl)
theorem dX6_worked_114 : decode cX6_worked 114 = .ok (.fload 7, 2) := dk_23 7 (dk_at dksX6_worked_4 11 rfl rfl)
theorem dX6_worked_116 : decode cX6_worked 116 = .ok (.frem, 1) := dk_114 (dk_at dksX6_worked_4 13 rfl rfl)
theorem dX6_worked_117 : decode cX6_worked 117 = .ok (.f2d, 1) := dk_141 (dk_at dksX6_worked_4 14 rfl rfl)
theorem dX6_worked_118 : decode cX6_worked 118 = .ok (.dreturn, 1) := dk_175 (dk_at dksX6_worked_4 15 rfl rfl)
abbrev cX6_whole : ByteArray := prog_17_method_9_code
def yX6_whole : MethodName := ⟨RX6, "whole", "(DI)J"⟩
def dkwX6_whole_1 : List UInt8 := [147, 133, 167, 0, 6, 23, 4, 140, 173]
abbrev dktX6_whole_1 : List UInt8 := dkwX6_whole_1 ++ []
def dkwX6_whole_0 : List UInt8 := [39, 144, 56, 4, 29, 4, 160, 0, 10, 23, 4, 139, 133, 167, 0, 19, 29, 5, 160, 0, 11, 23, 4, 139]
abbrev dktX6_whole_0 : List UInt8 := dkwX6_whole_0 ++ dktX6_whole_1
theorem dksX6_whole_0 : cX6_whole.data.toList.drop 0 = dktX6_whole_0 := by decide +kernel
theorem dksX6_whole_1 : cX6_whole.data.toList.drop 24 = dktX6_whole_1 := dk_seg dksX6_whole_0 24 rfl rfl
theorem dX6_whole_0 : decode cX6_whole 0 = .ok (.dload_n 1, 1) := dk_39 (dk_at dksX6_whole_0 0 rfl rfl)
theorem dX6_whole_1 : decode cX6_whole 1 = .ok (.d2f, 1) := dk_144 (dk_at dksX6_whole_0 1 rfl rfl)
theorem dX6_whole_2 : decode cX6_whole 2 = .ok (.fstore 4, 2) := dk_56 4 (dk_at dksX6_whole_0 2 rfl rfl)
theorem dX6_whole_4 : decode cX6_whole 4 = .ok (.iload_n 3, 1) := dk_29 (dk_at dksX6_whole_0 4 rfl rfl)
theorem dX6_whole_5 : decode cX6_whole 5 = .ok (.iconst 1, 1) := dk_4 (dk_at dksX6_whole_0 5 rfl rfl)
theorem dX6_whole_6 : decode cX6_whole 6 = .ok (.if_icmp .ne 10, 3) := dk_160 0 10 (dk_at dksX6_whole_0 6 rfl rfl)
theorem dX6_whole_9 : decode cX6_whole 9 = .ok (.fload 4, 2) := dk_23 4 (dk_at dksX6_whole_0 9 rfl rfl)
theorem dX6_whole_11 : decode cX6_whole 11 = .ok (.f2i, 1) := dk_139 (dk_at dksX6_whole_0 11 rfl rfl)
theorem dX6_whole_12 : decode cX6_whole 12 = .ok (.i2l, 1) := dk_133 (dk_at dksX6_whole_0 12 rfl rfl)
theorem dX6_whole_13 : decode cX6_whole 13 = .ok (.goto 19, 3) := dk_167 0 19 (dk_at dksX6_whole_0 13 rfl rfl)
theorem dX6_whole_16 : decode cX6_whole 16 = .ok (.iload_n 3, 1) := dk_29 (dk_at dksX6_whole_0 16 rfl rfl)
theorem dX6_whole_17 : decode cX6_whole 17 = .ok (.iconst 2, 1) := dk_5 (dk_at dksX6_whole_0 17 rfl rfl)
theorem dX6_whole_18 : decode cX6_whole 18 = .ok (.if_icmp .ne 11, 3) := dk_160 0 11 (dk_at dksX6_whole_0 18 rfl rfl)
theorem dX6_whole_21 : decode cX6_whole 21 = .ok (.fload 4, 2) := dk_23 4 (dk_at dksX6_whole_0 21 rfl rfl)
theorem dX6_whole_23 : decode cX6_whole 23 = .ok (.f2i, 1) := dk_139 (dk_at dksX6_whole_0 23 rfl rfl)
theorem dX6_whole_24 : decode cX6_whole 24 = .ok (.i2s, 1) := dk_147 (dk_at dksX6_whole_1 0 rfl rfl)
theorem dX6_whole_25 : decode cX6_whole 25 = .ok (.i2l, 1) := dk_133 (dk_at dksX6_whole_1 1 rfl rfl)
theorem dX6_whole_26 : decode cX6_whole 26 = .ok (.goto 6, 3) := dk_167 0 6 (dk_at dksX6_whole_1 2 rfl rfl)
theorem dX6_whole_29 : decode cX6_whole 29 = .ok (.fload 4, 2) := dk_23 4 (dk_at dksX6_whole_1 5 rfl rfl)
theorem dX6_whole_31 : decode cX6_whole 31 = .ok (.f2l, 1) := dk_140 (dk_at dksX6_whole_1 7 rfl rfl)
theorem dX6_whole_32 : decode cX6_whole 32 = .ok (.lreturn, 1) := dk_173 (dk_at dksX6_whole_1 8 rfl rfl)
abbrev cX6_add : ByteArray := prog_17_method_7_code
def yX6_add : MethodName := ⟨RX6, "add", "(DD)D"⟩
def dkwX6_add_0 : List UInt8 := [39, 144, 41, 144, 98, 141, 175]
abbrev dktX6_add_0 : List UInt8 := dkwX6_add_0 ++ []
theorem dksX6_add_0 : cX6_add.data.toList.drop 0 = dktX6_add_0 := by decide +kernel
theorem dX6_add_0 : decode cX6_add 0 = .ok (.dload_n 1, 1) := dk_39 (dk_at dksX6_add_0 0 rfl rfl)
theorem dX6_add_1 : decode cX6_add 1 = .ok (.d2f, 1) := dk_144 (dk_at dksX6_add_0 1 rfl rfl)
theorem dX6_add_2 : decode cX6_add 2 = .ok (.dload_n 3, 1) := dk_41 (dk_at dksX6_add_0 2 rfl rfl)
theorem dX6_add_3 : decode cX6_add 3 = .ok (.d2f, 1) := dk_144 (dk_at dksX6_add_0 3 rfl rfl)
theorem dX6_add_4 : decode cX6_add 4 = .ok (.fadd, 1) := dk_98 (dk_at dksX6_add_0 4 rfl rfl)
theorem dX6_add_5 : decode cX6_add 5 = .ok (.f2d, 1) := dk_141 (dk_at dksX6_add_0 5 rfl rfl)
theorem dX6_add_6 : decode cX6_add 6 = .ok (.dreturn, 1) := dk_175 (dk_at dksX6_add_0 6 rfl rfl)
abbrev cX6_nearest : ByteArray := prog_17_method_10_code
def yX6_nearest : MethodName := ⟨RX6, "nearest", "(LRoundingAuditor$Exact;)D"⟩
def dkwX6_nearest_0 : List UInt8 := [43, 182, 0, 57, 141, 175]
abbrev dktX6_nearest_0 : List UInt8 := dkwX6_nearest_0 ++ []
theorem dksX6_nearest_0 : cX6_nearest.data.toList.drop 0 = dktX6_nearest_0 := by decide +kernel
theorem dX6_nearest_0 : decode cX6_nearest 0 = .ok (.aload_n 1, 1) := dk_43 (dk_at dksX6_nearest_0 0 rfl rfl)
theorem dX6_nearest_1 : decode cX6_nearest 1 = .ok (.invokevirtual 57, 3) := dk_182 0 57 (dk_at dksX6_nearest_0 1 rfl rfl)
theorem dX6_nearest_4 : decode cX6_nearest 4 = .ok (.f2d, 1) := dk_141 (dk_at dksX6_nearest_0 4 rfl rfl)
theorem dX6_nearest_5 : decode cX6_nearest 5 = .ok (.dreturn, 1) := dk_175 (dk_at dksX6_nearest_0 5 rfl rfl)
theorem q80 : (Jvm.Cond.initialized "RoundingAuditor$Narrow") ∈ lw_all := lw_g (lw_at lw_m1 16 rfl) rfl
theorem q531 : (Jvm.Cond.instantiable "RoundingAuditor$Narrow" (5 : Nat)) ∈ lw_all := lw_g (lw_at lw_m2 227 rfl) rfl
theorem q533 : (Jvm.Cond.instanceMethod ({ cls := "RoundingAuditor$Narrow", name := "<init>", desc := "(I)V" } : Jvm.MethodName)) ∈ lw_all := lw_g (lw_at lw_m2 229 rfl) rfl
theorem q534 : (Jvm.Cond.code ({ cls := "RoundingAuditor$Narrow", name := "<init>", desc := "(I)V" } : Jvm.MethodName) prog_17_method_1_code (2 : Nat) (Option.none : Option Jvm.ClassFile.FieldType)) ∈ lw_all := lw_g (lw_at lw_m2 230 rfl) rfl
theorem q535 : (Jvm.Cond.methodLink "RoundingAuditor$Narrow" (3 : Nat) ({ cls := "RoundingAuditor$Ledger", name := "<init>", desc := "(I)V" } : Jvm.MethodName)) ∈ lw_all := lw_g (lw_at lw_m2 231 rfl) rfl
theorem q536 : (Jvm.Cond.fieldLink "RoundingAuditor$Narrow" (9 : Nat) "RoundingAuditor$Narrow" "amounts" "[F") ∈ lw_all := lw_g (lw_at lw_m2 232 rfl) rfl
theorem q537 : (Jvm.Cond.laysFinal "RoundingAuditor$Narrow" "RoundingAuditor$Narrow" "amounts" "[F") ∈ lw_all := lw_g (lw_at lw_m2 233 rfl) rfl
theorem q538 : (Jvm.Cond.soleField "RoundingAuditor$Narrow" "amounts") ∈ lw_all := lw_g (lw_at lw_m2 234 rfl) rfl
theorem q539 : (Jvm.Cond.laysFinal "RoundingAuditor$Narrow" "RoundingAuditor$Ledger" "accounts" "[B") ∈ lw_all := lw_g (lw_at lw_m2 235 rfl) rfl
theorem q540 : (Jvm.Cond.laysFinal "RoundingAuditor$Narrow" "RoundingAuditor$Ledger" "days" "[B") ∈ lw_all := lw_g (lw_at lw_m2 236 rfl) rfl
theorem q541 : (Jvm.Cond.laysFinal "RoundingAuditor$Narrow" "RoundingAuditor$Ledger" "given" "[B") ∈ lw_all := lw_g (lw_at lw_m2 237 rfl) rfl
theorem q542 : (Jvm.Cond.lays "RoundingAuditor$Narrow" "RoundingAuditor$Ledger" "givenCount" "I") ∈ lw_all := lw_g (lw_at lw_m2 238 rfl) rfl
theorem q543 : (Jvm.Cond.superclass "RoundingAuditor$Narrow" "RoundingAuditor$Ledger") ∈ lw_all := lw_g (lw_at lw_m2 239 rfl) rfl
theorem q580 : (Jvm.Cond.selects "RoundingAuditor$Narrow" ({ cls := "RoundingAuditor$Ledger", name := "put", desc := "(IJ)Z" } : Jvm.MethodName) ({ cls := "RoundingAuditor$Narrow", name := "put", desc := "(IJ)Z" } : Jvm.MethodName)) ∈ lw_all := lw_g (lw_at lw_m3 36 rfl) rfl
theorem q581 : (Jvm.Cond.instanceMethod ({ cls := "RoundingAuditor$Narrow", name := "put", desc := "(IJ)Z" } : Jvm.MethodName)) ∈ lw_all := lw_g (lw_at lw_m3 37 rfl) rfl
theorem q582 : (Jvm.Cond.code ({ cls := "RoundingAuditor$Narrow", name := "put", desc := "(IJ)Z" } : Jvm.MethodName) prog_17_method_5_code (5 : Nat) (Option.some Jvm.ClassFile.FieldType.boolean)) ∈ lw_all := lw_g (lw_at lw_m3 38 rfl) rfl
theorem q583 : (Jvm.Cond.constant "RoundingAuditor$Narrow" (16 : Nat) (2147483647 : Int32)) ∈ lw_all := lw_g (lw_at lw_m3 39 rfl) rfl
theorem q584 : (Jvm.Cond.constantFloat "RoundingAuditor$Narrow" (17 : Nat) (1904214016 : UInt32)) ∈ lw_all := lw_g (lw_at lw_m3 40 rfl) rfl
theorem q585 : (Jvm.Cond.methodLink "RoundingAuditor$Narrow" (18 : Nat) ({ cls := "java/lang/Float", name := "floatToIntBits", desc := "(F)I" } : Jvm.MethodName)) ∈ lw_all := lw_g (lw_at lw_m3 41 rfl) rfl
theorem q586 : (Jvm.Cond.methodLink "RoundingAuditor$Narrow" (24 : Nat) ({ cls := "java/lang/Float", name := "intBitsToFloat", desc := "(I)F" } : Jvm.MethodName)) ∈ lw_all := lw_g (lw_at lw_m3 42 rfl) rfl
theorem q607 : (Jvm.Cond.selects "RoundingAuditor$Narrow" ({ cls := "RoundingAuditor$Ledger", name := "book", desc := "(III)V" } : Jvm.MethodName) ({ cls := "RoundingAuditor$Ledger", name := "book", desc := "(III)V" } : Jvm.MethodName)) ∈ lw_all := lw_g (lw_at lw_m3 63 rfl) rfl
theorem q620 : (Jvm.Cond.selects "RoundingAuditor$Narrow" ({ cls := "RoundingAuditor$Ledger", name := "at", desc := "(I)D" } : Jvm.MethodName) ({ cls := "RoundingAuditor$Narrow", name := "at", desc := "(I)D" } : Jvm.MethodName)) ∈ lw_all := lw_g (lw_at lw_m3 76 rfl) rfl
theorem q621 : (Jvm.Cond.instanceMethod ({ cls := "RoundingAuditor$Narrow", name := "at", desc := "(I)D" } : Jvm.MethodName)) ∈ lw_all := lw_g (lw_at lw_m3 77 rfl) rfl
theorem q622 : (Jvm.Cond.code ({ cls := "RoundingAuditor$Narrow", name := "at", desc := "(I)D" } : Jvm.MethodName) prog_17_method_4_code (2 : Nat) (Option.some Jvm.ClassFile.FieldType.double)) ∈ lw_all := lw_g (lw_at lw_m3 78 rfl) rfl
theorem q629 : (Jvm.Cond.selects "RoundingAuditor$Narrow" ({ cls := "RoundingAuditor$Ledger", name := "bits", desc := "(D)J" } : Jvm.MethodName) ({ cls := "RoundingAuditor$Narrow", name := "bits", desc := "(D)J" } : Jvm.MethodName)) ∈ lw_all := lw_g (lw_at lw_m3 85 rfl) rfl
theorem q630 : (Jvm.Cond.instanceMethod ({ cls := "RoundingAuditor$Narrow", name := "bits", desc := "(D)J" } : Jvm.MethodName)) ∈ lw_all := lw_g (lw_at lw_m3 86 rfl) rfl
theorem q631 : (Jvm.Cond.code ({ cls := "RoundingAuditor$Narrow", name := "bits", desc := "(D)J" } : Jvm.MethodName) prog_17_method_6_code (3 : Nat) (Option.some Jvm.ClassFile.FieldType.long)) ∈ lw_all := lw_g (lw_at lw_m3 87 rfl) rfl
theorem q645 : (Jvm.Cond.selects "RoundingAuditor$Narrow" ({ cls := "RoundingAuditor$Ledger", name := "account", desc := "(I)I" } : Jvm.MethodName) ({ cls := "RoundingAuditor$Ledger", name := "account", desc := "(I)I" } : Jvm.MethodName)) ∈ lw_all := lw_g (lw_at lw_m3 101 rfl) rfl
theorem q651 : (Jvm.Cond.selects "RoundingAuditor$Narrow" ({ cls := "RoundingAuditor$Ledger", name := "day", desc := "(I)I" } : Jvm.MethodName) ({ cls := "RoundingAuditor$Ledger", name := "day", desc := "(I)I" } : Jvm.MethodName)) ∈ lw_all := lw_g (lw_at lw_m3 107 rfl) rfl
theorem q664 : (Jvm.Cond.selects "RoundingAuditor$Narrow" ({ cls := "RoundingAuditor$Ledger", name := "length", desc := "()I" } : Jvm.MethodName) ({ cls := "RoundingAuditor$Ledger", name := "length", desc := "()I" } : Jvm.MethodName)) ∈ lw_all := lw_g (lw_at lw_m3 120 rfl) rfl
theorem q670 : (Jvm.Cond.selects "RoundingAuditor$Narrow" ({ cls := "RoundingAuditor$Ledger", name := "isWide", desc := "()Z" } : Jvm.MethodName) ({ cls := "RoundingAuditor$Narrow", name := "isWide", desc := "()Z" } : Jvm.MethodName)) ∈ lw_all := lw_g (lw_at lw_m3 126 rfl) rfl
theorem q671 : (Jvm.Cond.instanceMethod ({ cls := "RoundingAuditor$Narrow", name := "isWide", desc := "()Z" } : Jvm.MethodName)) ∈ lw_all := lw_g (lw_at lw_m3 127 rfl) rfl
theorem q672 : (Jvm.Cond.code ({ cls := "RoundingAuditor$Narrow", name := "isWide", desc := "()Z" } : Jvm.MethodName) prog_17_method_2_code (1 : Nat) (Option.some Jvm.ClassFile.FieldType.boolean)) ∈ lw_all := lw_g (lw_at lw_m3 128 rfl) rfl
theorem q695 : (Jvm.Cond.selects "RoundingAuditor$Narrow" ({ cls := "RoundingAuditor$Ledger", name := "least", desc := "()D" } : Jvm.MethodName) ({ cls := "RoundingAuditor$Narrow", name := "least", desc := "()D" } : Jvm.MethodName)) ∈ lw_all := lw_g (lw_at lw_m3 151 rfl) rfl
theorem q696 : (Jvm.Cond.instanceMethod ({ cls := "RoundingAuditor$Narrow", name := "least", desc := "()D" } : Jvm.MethodName)) ∈ lw_all := lw_g (lw_at lw_m3 152 rfl) rfl
theorem q697 : (Jvm.Cond.code ({ cls := "RoundingAuditor$Narrow", name := "least", desc := "()D" } : Jvm.MethodName) prog_17_method_11_code (1 : Nat) (Option.some Jvm.ClassFile.FieldType.double)) ∈ lw_all := lw_g (lw_at lw_m3 153 rfl) rfl
theorem q698 : (Jvm.Cond.constantDouble "RoundingAuditor$Narrow" (63 : Nat) (4039728865751334912 : UInt64)) ∈ lw_all := lw_g (lw_at lw_m3 154 rfl) rfl
theorem q714 : (Jvm.Cond.selects "RoundingAuditor$Narrow" ({ cls := "RoundingAuditor$Ledger", name := "another", desc := "(I)LRoundingAuditor$Ledger;" } : Jvm.MethodName) ({ cls := "RoundingAuditor$Narrow", name := "another", desc := "(I)LRoundingAuditor$Ledger;" } : Jvm.MethodName)) ∈ lw_all := lw_g (lw_at lw_m3 170 rfl) rfl
theorem q715 : (Jvm.Cond.instanceMethod ({ cls := "RoundingAuditor$Narrow", name := "another", desc := "(I)LRoundingAuditor$Ledger;" } : Jvm.MethodName)) ∈ lw_all := lw_g (lw_at lw_m3 171 rfl) rfl
theorem q716 : (Jvm.Cond.code ({ cls := "RoundingAuditor$Narrow", name := "another", desc := "(I)LRoundingAuditor$Ledger;" } : Jvm.MethodName) prog_17_method_3_code (2 : Nat) (Option.some (Jvm.ClassFile.FieldType.object "RoundingAuditor$Ledger"))) ∈ lw_all := lw_g (lw_at lw_m3 172 rfl) rfl
theorem q717 : (Jvm.Cond.classLink "RoundingAuditor$Narrow" (10 : Nat) "RoundingAuditor$Narrow") ∈ lw_all := lw_g (lw_at lw_m3 173 rfl) rfl
theorem q718 : (Jvm.Cond.methodLink "RoundingAuditor$Narrow" (15 : Nat) ({ cls := "RoundingAuditor$Narrow", name := "<init>", desc := "(I)V" } : Jvm.MethodName)) ∈ lw_all := lw_g (lw_at lw_m3 174 rfl) rfl
theorem q727 : (Jvm.Cond.selects "RoundingAuditor$Narrow" ({ cls := "RoundingAuditor$Ledger", name := "copy", desc := "(ILRoundingAuditor$Ledger;I)V" } : Jvm.MethodName) ({ cls := "RoundingAuditor$Ledger", name := "copy", desc := "(ILRoundingAuditor$Ledger;I)V" } : Jvm.MethodName)) ∈ lw_all := lw_g (lw_at lw_m3 183 rfl) rfl
theorem q753 : (Jvm.Cond.selects "RoundingAuditor$Narrow" ({ cls := "RoundingAuditor$Ledger", name := "isLike", desc := "(LRoundingAuditor$Ledger;)Z" } : Jvm.MethodName) ({ cls := "RoundingAuditor$Ledger", name := "isLike", desc := "(LRoundingAuditor$Ledger;)Z" } : Jvm.MethodName)) ∈ lw_all := lw_g (lw_at lw_m3 209 rfl) rfl
theorem q788 : (Jvm.Cond.selects "RoundingAuditor$Narrow" ({ cls := "RoundingAuditor$Ledger", name := "worked", desc := "(DDI)D" } : Jvm.MethodName) ({ cls := "RoundingAuditor$Narrow", name := "worked", desc := "(DDI)D" } : Jvm.MethodName)) ∈ lw_all := lw_g (lw_at lw_m4 4 rfl) rfl
theorem q789 : (Jvm.Cond.instanceMethod ({ cls := "RoundingAuditor$Narrow", name := "worked", desc := "(DDI)D" } : Jvm.MethodName)) ∈ lw_all := lw_g (lw_at lw_m4 5 rfl) rfl
theorem q790 : (Jvm.Cond.code ({ cls := "RoundingAuditor$Narrow", name := "worked", desc := "(DDI)D" } : Jvm.MethodName) prog_17_method_8_code (8 : Nat) (Option.some Jvm.ClassFile.FieldType.double)) ∈ lw_all := lw_g (lw_at lw_m4 6 rfl) rfl
theorem q791 : (Jvm.Cond.methodLink "RoundingAuditor$Narrow" (28 : Nat) ({ cls := "java/lang/Math", name := "floor", desc := "(D)D" } : Jvm.MethodName)) ∈ lw_all := lw_g (lw_at lw_m4 7 rfl) rfl
theorem q812 : (Jvm.Cond.methodLink "RoundingAuditor$Narrow" (34 : Nat) ({ cls := "java/lang/Math", name := "ceil", desc := "(D)D" } : Jvm.MethodName)) ∈ lw_all := lw_g (lw_at lw_m4 28 rfl) rfl
theorem q819 : (Jvm.Cond.methodLink "RoundingAuditor$Narrow" (37 : Nat) ({ cls := "java/lang/Math", name := "rint", desc := "(D)D" } : Jvm.MethodName)) ∈ lw_all := lw_g (lw_at lw_m4 35 rfl) rfl
theorem q820 : (Jvm.Cond.methodLink "RoundingAuditor$Narrow" (40 : Nat) ({ cls := "java/lang/Math", name := "abs", desc := "(F)F" } : Jvm.MethodName)) ∈ lw_all := lw_g (lw_at lw_m4 36 rfl) rfl
theorem q826 : (Jvm.Cond.methodLink "RoundingAuditor$Narrow" (44 : Nat) ({ cls := "java/lang/Math", name := "signum", desc := "(F)F" } : Jvm.MethodName)) ∈ lw_all := lw_g (lw_at lw_m4 42 rfl) rfl
theorem q834 : (Jvm.Cond.methodLink "RoundingAuditor$Narrow" (47 : Nat) ({ cls := "java/lang/Math", name := "copySign", desc := "(FF)F" } : Jvm.MethodName)) ∈ lw_all := lw_g (lw_at lw_m4 50 rfl) rfl
theorem q835 : (Jvm.Cond.methodLink "RoundingAuditor$Narrow" (51 : Nat) ({ cls := "java/lang/Math", name := "min", desc := "(FF)F" } : Jvm.MethodName)) ∈ lw_all := lw_g (lw_at lw_m4 51 rfl) rfl
theorem q840 : (Jvm.Cond.methodLink "RoundingAuditor$Narrow" (54 : Nat) ({ cls := "java/lang/Math", name := "max", desc := "(FF)F" } : Jvm.MethodName)) ∈ lw_all := lw_g (lw_at lw_m4 56 rfl) rfl
theorem q871 : (Jvm.Cond.selects "RoundingAuditor$Narrow" ({ cls := "RoundingAuditor$Ledger", name := "whole", desc := "(DI)J" } : Jvm.MethodName) ({ cls := "RoundingAuditor$Narrow", name := "whole", desc := "(DI)J" } : Jvm.MethodName)) ∈ lw_all := lw_g (lw_at lw_m4 87 rfl) rfl
theorem q872 : (Jvm.Cond.instanceMethod ({ cls := "RoundingAuditor$Narrow", name := "whole", desc := "(DI)J" } : Jvm.MethodName)) ∈ lw_all := lw_g (lw_at lw_m4 88 rfl) rfl
theorem q873 : (Jvm.Cond.code ({ cls := "RoundingAuditor$Narrow", name := "whole", desc := "(DI)J" } : Jvm.MethodName) prog_17_method_9_code (5 : Nat) (Option.some Jvm.ClassFile.FieldType.long)) ∈ lw_all := lw_g (lw_at lw_m4 89 rfl) rfl
theorem q922 : (Jvm.Cond.selects "RoundingAuditor$Narrow" ({ cls := "RoundingAuditor$Ledger", name := "give", desc := "(I)Z" } : Jvm.MethodName) ({ cls := "RoundingAuditor$Ledger", name := "give", desc := "(I)Z" } : Jvm.MethodName)) ∈ lw_all := lw_g (lw_at lw_m4 138 rfl) rfl
theorem q928 : (Jvm.Cond.selects "RoundingAuditor$Narrow" ({ cls := "RoundingAuditor$Ledger", name := "givenCount", desc := "()I" } : Jvm.MethodName) ({ cls := "RoundingAuditor$Ledger", name := "givenCount", desc := "()I" } : Jvm.MethodName)) ∈ lw_all := lw_g (lw_at lw_m4 144 rfl) rfl
theorem q1148 : (Jvm.Cond.selects "RoundingAuditor$Narrow" ({ cls := "RoundingAuditor$Adder", name := "add", desc := "(DD)D" } : Jvm.MethodName) ({ cls := "RoundingAuditor$Narrow", name := "add", desc := "(DD)D" } : Jvm.MethodName)) ∈ lw_all := lw_g (lw_at lw_m5 124 rfl) rfl
theorem q1149 : (Jvm.Cond.instanceMethod ({ cls := "RoundingAuditor$Narrow", name := "add", desc := "(DD)D" } : Jvm.MethodName)) ∈ lw_all := lw_g (lw_at lw_m5 125 rfl) rfl
theorem q1150 : (Jvm.Cond.code ({ cls := "RoundingAuditor$Narrow", name := "add", desc := "(DD)D" } : Jvm.MethodName) prog_17_method_7_code (5 : Nat) (Option.some Jvm.ClassFile.FieldType.double)) ∈ lw_all := lw_g (lw_at lw_m5 126 rfl) rfl
theorem q1204 : (Jvm.Cond.selects "RoundingAuditor$Narrow" ({ cls := "RoundingAuditor$Ledger", name := "given", desc := "(I)I" } : Jvm.MethodName) ({ cls := "RoundingAuditor$Ledger", name := "given", desc := "(I)I" } : Jvm.MethodName)) ∈ lw_all := lw_g (lw_at lw_m5 180 rfl) rfl
theorem q1233 : (Jvm.Cond.castable "RoundingAuditor$Narrow" "RoundingAuditor$Adder") ∈ lw_tbl := lw_at lw_m5 209 rfl
theorem q1234 : (Jvm.Cond.unhidden "RoundingAuditor$Narrow" "less" "(DD)D") ∈ lw_tbl := lw_at lw_m5 210 rfl
theorem q1241 : (Jvm.Cond.unhidden "RoundingAuditor$Narrow" "add" "(DD)D") ∈ lw_tbl := lw_at lw_m5 217 rfl
theorem q1242 : (Jvm.Cond.publicMethod ({ cls := "RoundingAuditor$Narrow", name := "add", desc := "(DD)D" } : Jvm.MethodName)) ∈ lw_tbl := lw_at lw_m5 218 rfl
theorem q1343 : (Jvm.Cond.selects "RoundingAuditor$Narrow" ({ cls := "java/lang/Object", name := "getClass", desc := "()Ljava/lang/Class;" } : Jvm.MethodName) ({ cls := "java/lang/Object", name := "getClass", desc := "()Ljava/lang/Class;" } : Jvm.MethodName)) ∈ lw_all := lw_g (lw_at lw_m6 79 rfl) rfl
theorem q1393 : (Jvm.Cond.selects "RoundingAuditor$Narrow" ({ cls := "RoundingAuditor$Ledger", name := "nearest", desc := "(LRoundingAuditor$Exact;)D" } : Jvm.MethodName) ({ cls := "RoundingAuditor$Narrow", name := "nearest", desc := "(LRoundingAuditor$Exact;)D" } : Jvm.MethodName)) ∈ lw_all := lw_g (lw_at lw_m6 129 rfl) rfl
theorem q1394 : (Jvm.Cond.instanceMethod ({ cls := "RoundingAuditor$Narrow", name := "nearest", desc := "(LRoundingAuditor$Exact;)D" } : Jvm.MethodName)) ∈ lw_all := lw_g (lw_at lw_m6 130 rfl) rfl
theorem q1395 : (Jvm.Cond.code ({ cls := "RoundingAuditor$Narrow", name := "nearest", desc := "(LRoundingAuditor$Exact;)D" } : Jvm.MethodName) prog_17_method_10_code (2 : Nat) (Option.some Jvm.ClassFile.FieldType.double)) ∈ lw_all := lw_g (lw_at lw_m6 131 rfl) rfl
theorem q1396 : (Jvm.Cond.methodLink "RoundingAuditor$Narrow" (57 : Nat) ({ cls := "RoundingAuditor$Exact", name := "toFloat", desc := "()F" } : Jvm.MethodName)) ∈ lw_all := lw_g (lw_at lw_m6 132 rfl) rfl
theorem q2062 : (Jvm.Cond.castable "RoundingAuditor$Narrow" "java/lang/Object") ∈ lw_tbl := lw_at lw_m9 78 rfl
theorem q2084 : (Jvm.Cond.castable "RoundingAuditor$Narrow" "RoundingAuditor$Ledger") ∈ lw_tbl := lw_at lw_m9 100 rfl
theorem in_X6 : ∀ w ∈ wsX60, w ∈ lw_all := lw_in wsX60 [539, 540, 541, 542, 537] (by decide +kernel) (by decide +kernel)

/-! java/lang/NullPointerException -/
set_option maxRecDepth 100000
def RJ10 : String := "java/lang/NullPointerException"
def TJ10 : u_T := fun k => match k with
  | 0 => ("java/lang/Throwable", "backtrace", "Ljava/lang/Object;", false)
  | 1 => ("java/lang/Throwable", "detailMessage", "Ljava/lang/String;", false)
  | 2 => ("java/lang/Throwable", "cause", "Ljava/lang/Throwable;", false)
  | 3 => ("java/lang/Throwable", "stackTrace", "[Ljava/lang/StackTraceElement;", false)
  | 4 => ("java/lang/Throwable", "depth", "I", false)
  | 5 => ("java/lang/Throwable", "suppressedExceptions", "Ljava/util/List;", false)
  | 6 => ("java/lang/NullPointerException", "extendedMessageState", "I", false)
  | _ => ("java/lang/NullPointerException", "extendedMessage", "Ljava/lang/String;", false)
def tyJ10 : Nat → FieldType := fun k => match k with
  | 0 => .object "java/lang/Object"
  | 1 => .object "java/lang/String"
  | 2 => .object "java/lang/Throwable"
  | 3 => .array (.object "java/lang/StackTraceElement")
  | 4 => .int
  | 5 => .object "java/util/List"
  | 6 => .int
  | _ => .object "java/lang/String"
abbrev wsJ100 : List Cond := u_ws RJ10 TJ10 8
theorem nmJ10 : ∀ a, a < 8 → ∀ b, b < 8 → a ≠ b → (TJ10 a).2.1 ≠ (TJ10 b).2.1 := by decide +kernel
theorem tyJ10_ok : ∀ k, k < 8 → parseFieldDescriptor (TJ10 k).2.2.1 = some (tyJ10 k) := by decide +kernel
abbrev cJ10_init : ByteArray := prog_40_method_1_code
def yJ10_init : MethodName := ⟨RJ10, "<init>", "()V"⟩
theorem dJ10_init_0 : decode cJ10_init 0 = .ok (.aload_n 0, 1) := by decide +kernel
theorem dJ10_init_1 : decode cJ10_init 1 = .ok (.invokespecial 1, 3) := by decide +kernel
theorem dJ10_init_4 : decode cJ10_init 4 = .ok (.return_, 1) := by decide +kernel
theorem q81 : (Jvm.Cond.initialized "java/lang/NullPointerException") ∈ lw_all := lw_g (lw_at lw_m1 17 rfl) rfl
theorem q420 : (Jvm.Cond.selects "java/lang/NullPointerException" ({ cls := "java/lang/Throwable", name := "fillInStackTrace", desc := "()Ljava/lang/Throwable;" } : Jvm.MethodName) ({ cls := "java/lang/NullPointerException", name := "fillInStackTrace", desc := "()Ljava/lang/Throwable;" } : Jvm.MethodName)) ∈ lw_all := lw_g (lw_at lw_m2 116 rfl) rfl
theorem q421 : (Jvm.Cond.instanceMethod ({ cls := "java/lang/NullPointerException", name := "fillInStackTrace", desc := "()Ljava/lang/Throwable;" } : Jvm.MethodName)) ∈ lw_all := lw_g (lw_at lw_m2 117 rfl) rfl
theorem q422 : (Jvm.Cond.codeSync ({ cls := "java/lang/NullPointerException", name := "fillInStackTrace", desc := "()Ljava/lang/Throwable;" } : Jvm.MethodName) prog_40_method_3_code (1 : Nat) (Option.some (Jvm.ClassFile.FieldType.object "java/lang/Throwable"))) ∈ lw_all := lw_g (lw_at lw_m2 118 rfl) rfl
theorem q423 : (Jvm.Cond.methodLink "java/lang/NullPointerException" (16 : Nat) ({ cls := "java/lang/NullPointerException", name := "getExtendedNPEMessage", desc := "()Ljava/lang/String;" } : Jvm.MethodName)) ∈ lw_all := lw_g (lw_at lw_m2 119 rfl) rfl
theorem q424 : (Jvm.Cond.privateMethod ({ cls := "java/lang/NullPointerException", name := "getExtendedNPEMessage", desc := "()Ljava/lang/String;" } : Jvm.MethodName)) ∈ lw_tbl := lw_at lw_m2 120 rfl
theorem q425 : (Jvm.Cond.instanceMethod ({ cls := "java/lang/NullPointerException", name := "getExtendedNPEMessage", desc := "()Ljava/lang/String;" } : Jvm.MethodName)) ∈ lw_all := lw_g (lw_at lw_m2 121 rfl) rfl
theorem q426 : (Jvm.Cond.instantiable "java/lang/NullPointerException" (8 : Nat)) ∈ lw_all := lw_g (lw_at lw_m2 122 rfl) rfl
theorem q427 : (Jvm.Cond.native ({ cls := "java/lang/NullPointerException", name := "getExtendedNPEMessage", desc := "()Ljava/lang/String;" } : Jvm.MethodName)) ∈ lw_all := lw_g (lw_at lw_m2 123 rfl) rfl
theorem q428 : (Jvm.Cond.methodLink "java/lang/NullPointerException" (24 : Nat) ({ cls := "java/lang/RuntimeException", name := "fillInStackTrace", desc := "()Ljava/lang/Throwable;" } : Jvm.MethodName)) ∈ lw_all := lw_g (lw_at lw_m2 124 rfl) rfl
theorem q431 : (Jvm.Cond.superclass "java/lang/NullPointerException" "java/lang/RuntimeException") ∈ lw_all := lw_g (lw_at lw_m2 127 rfl) rfl
theorem q549 : (Jvm.Cond.instanceMethod ({ cls := "java/lang/NullPointerException", name := "<init>", desc := "()V" } : Jvm.MethodName)) ∈ lw_all := lw_g (lw_at lw_m3 5 rfl) rfl
theorem q550 : (Jvm.Cond.code ({ cls := "java/lang/NullPointerException", name := "<init>", desc := "()V" } : Jvm.MethodName) prog_40_method_1_code (1 : Nat) (Option.none : Option Jvm.ClassFile.FieldType)) ∈ lw_all := lw_g (lw_at lw_m3 6 rfl) rfl
theorem q551 : (Jvm.Cond.methodLink "java/lang/NullPointerException" (1 : Nat) ({ cls := "java/lang/RuntimeException", name := "<init>", desc := "()V" } : Jvm.MethodName)) ∈ lw_all := lw_g (lw_at lw_m3 7 rfl) rfl
theorem q558 : (Jvm.Cond.fieldLink "java/lang/NullPointerException" (10 : Nat) "java/lang/NullPointerException" "extendedMessageState" "I") ∈ lw_all := lw_g (lw_at lw_m3 14 rfl) rfl
theorem q559 : (Jvm.Cond.fieldLink "java/lang/NullPointerException" (20 : Nat) "java/lang/NullPointerException" "extendedMessage" "Ljava/lang/String;") ∈ lw_all := lw_g (lw_at lw_m3 15 rfl) rfl
theorem q560 : (Jvm.Cond.lays "java/lang/NullPointerException" "java/lang/NullPointerException" "extendedMessageState" "I") ∈ lw_all := lw_g (lw_at lw_m3 16 rfl) rfl
theorem q561 : (Jvm.Cond.soleField "java/lang/NullPointerException" "extendedMessageState") ∈ lw_all := lw_g (lw_at lw_m3 17 rfl) rfl
theorem q562 : (Jvm.Cond.lays "java/lang/NullPointerException" "java/lang/NullPointerException" "extendedMessage" "Ljava/lang/String;") ∈ lw_all := lw_g (lw_at lw_m3 18 rfl) rfl
theorem q563 : (Jvm.Cond.soleField "java/lang/NullPointerException" "extendedMessage") ∈ lw_all := lw_g (lw_at lw_m3 19 rfl) rfl
theorem q564 : (Jvm.Cond.lays "java/lang/NullPointerException" "java/lang/Throwable" "backtrace" "Ljava/lang/Object;") ∈ lw_all := lw_g (lw_at lw_m3 20 rfl) rfl
theorem q565 : (Jvm.Cond.lays "java/lang/NullPointerException" "java/lang/Throwable" "detailMessage" "Ljava/lang/String;") ∈ lw_all := lw_g (lw_at lw_m3 21 rfl) rfl
theorem q566 : (Jvm.Cond.lays "java/lang/NullPointerException" "java/lang/Throwable" "cause" "Ljava/lang/Throwable;") ∈ lw_all := lw_g (lw_at lw_m3 22 rfl) rfl
theorem q567 : (Jvm.Cond.lays "java/lang/NullPointerException" "java/lang/Throwable" "stackTrace" "[Ljava/lang/StackTraceElement;") ∈ lw_all := lw_g (lw_at lw_m3 23 rfl) rfl
theorem q568 : (Jvm.Cond.lays "java/lang/NullPointerException" "java/lang/Throwable" "depth" "I") ∈ lw_all := lw_g (lw_at lw_m3 24 rfl) rfl
theorem q569 : (Jvm.Cond.lays "java/lang/NullPointerException" "java/lang/Throwable" "suppressedExceptions" "Ljava/util/List;") ∈ lw_all := lw_g (lw_at lw_m3 25 rfl) rfl
theorem q570 : (Jvm.Cond.castable "java/lang/NullPointerException" "java/lang/NullPointerException") ∈ lw_tbl := lw_at lw_m3 26 rfl
theorem q571 : (Jvm.Cond.selects "java/lang/NullPointerException" ({ cls := "java/lang/Throwable", name := "fillInStackTrace", desc := "(I)Ljava/lang/Throwable;" } : Jvm.MethodName) ({ cls := "java/lang/Throwable", name := "fillInStackTrace", desc := "(I)Ljava/lang/Throwable;" } : Jvm.MethodName)) ∈ lw_all := lw_g (lw_at lw_m3 27 rfl) rfl
theorem q1353 : (Jvm.Cond.selects "java/lang/NullPointerException" ({ cls := "java/lang/Object", name := "getClass", desc := "()Ljava/lang/Class;" } : Jvm.MethodName) ({ cls := "java/lang/Object", name := "getClass", desc := "()Ljava/lang/Class;" } : Jvm.MethodName)) ∈ lw_all := lw_g (lw_at lw_m6 89 rfl) rfl
theorem q2063 : (Jvm.Cond.castable "java/lang/NullPointerException" "java/lang/Object") ∈ lw_tbl := lw_at lw_m9 79 rfl
theorem in_J10 : ∀ w ∈ wsJ100, w ∈ lw_all := lw_in wsJ100 [564, 565, 566, 567, 568, 569, 560, 562] (by decide +kernel) (by decide +kernel)

/-! java/lang/Float -/
set_option maxRecDepth 100000
def RJ11 : String := "java/lang/Float"
abbrev cJ11_floatToIntBits : ByteArray := prog_35_method_24_code
def yJ11_floatToIntBits : MethodName := ⟨RJ11, "floatToIntBits", "(F)I"⟩
def dkwJ11_floatToIntBits_0 : List UInt8 := [34, 184, 0, 59, 154, 0, 8, 34, 184, 0, 74, 172, 18, 77, 172]
abbrev dktJ11_floatToIntBits_0 : List UInt8 := dkwJ11_floatToIntBits_0 ++ []
theorem dksJ11_floatToIntBits_0 : cJ11_floatToIntBits.data.toList.drop 0 = dktJ11_floatToIntBits_0 := by decide +kernel
theorem dJ11_floatToIntBits_0 : decode cJ11_floatToIntBits 0 = .ok (.fload_n 0, 1) := dk_34 (dk_at dksJ11_floatToIntBits_0 0 rfl rfl)
theorem dJ11_floatToIntBits_1 : decode cJ11_floatToIntBits 1 = .ok (.invokestatic 59, 3) := dk_184 0 59 (dk_at dksJ11_floatToIntBits_0 1 rfl rfl)
theorem dJ11_floatToIntBits_4 : decode cJ11_floatToIntBits 4 = .ok (.ifCond .ne 8, 3) := dk_154 0 8 (dk_at dksJ11_floatToIntBits_0 4 rfl rfl)
theorem dJ11_floatToIntBits_7 : decode cJ11_floatToIntBits 7 = .ok (.fload_n 0, 1) := dk_34 (dk_at dksJ11_floatToIntBits_0 7 rfl rfl)
theorem dJ11_floatToIntBits_8 : decode cJ11_floatToIntBits 8 = .ok (.invokestatic 74, 3) := dk_184 0 74 (dk_at dksJ11_floatToIntBits_0 8 rfl rfl)
theorem dJ11_floatToIntBits_11 : decode cJ11_floatToIntBits 11 = .ok (.ireturn, 1) := dk_172 (dk_at dksJ11_floatToIntBits_0 11 rfl rfl)
theorem dJ11_floatToIntBits_12 : decode cJ11_floatToIntBits 12 = .ok (.ldc 77, 2) := dk_18 77 (dk_at dksJ11_floatToIntBits_0 12 rfl rfl)
theorem dJ11_floatToIntBits_14 : decode cJ11_floatToIntBits 14 = .ok (.ireturn, 1) := dk_172 (dk_at dksJ11_floatToIntBits_0 14 rfl rfl)
abbrev cJ11_isNaN : ByteArray := prog_35_method_6_code
def yJ11_isNaN : MethodName := ⟨RJ11, "isNaN", "(F)Z"⟩
def dkwJ11_isNaN_0 : List UInt8 := [34, 34, 149, 153, 0, 7, 4, 167, 0, 4, 3, 172]
abbrev dktJ11_isNaN_0 : List UInt8 := dkwJ11_isNaN_0 ++ []
theorem dksJ11_isNaN_0 : cJ11_isNaN.data.toList.drop 0 = dktJ11_isNaN_0 := by decide +kernel
theorem dJ11_isNaN_0 : decode cJ11_isNaN 0 = .ok (.fload_n 0, 1) := dk_34 (dk_at dksJ11_isNaN_0 0 rfl rfl)
theorem dJ11_isNaN_1 : decode cJ11_isNaN 1 = .ok (.fload_n 0, 1) := dk_34 (dk_at dksJ11_isNaN_0 1 rfl rfl)
theorem dJ11_isNaN_2 : decode cJ11_isNaN 2 = .ok (.fcmp .l, 1) := dk_149 (dk_at dksJ11_isNaN_0 2 rfl rfl)
theorem dJ11_isNaN_3 : decode cJ11_isNaN 3 = .ok (.ifCond .eq 7, 3) := dk_153 0 7 (dk_at dksJ11_isNaN_0 3 rfl rfl)
theorem dJ11_isNaN_6 : decode cJ11_isNaN 6 = .ok (.iconst 1, 1) := dk_4 (dk_at dksJ11_isNaN_0 6 rfl rfl)
theorem dJ11_isNaN_7 : decode cJ11_isNaN 7 = .ok (.goto 4, 3) := dk_167 0 4 (dk_at dksJ11_isNaN_0 7 rfl rfl)
theorem dJ11_isNaN_10 : decode cJ11_isNaN 10 = .ok (.iconst 0, 1) := dk_3 (dk_at dksJ11_isNaN_0 10 rfl rfl)
theorem dJ11_isNaN_11 : decode cJ11_isNaN 11 = .ok (.ireturn, 1) := dk_172 (dk_at dksJ11_isNaN_0 11 rfl rfl)
theorem q83 : (Jvm.Cond.initialized "java/lang/Float") ∈ lw_all := lw_g (lw_at lw_m1 19 rfl) rfl
theorem q237 : (Jvm.Cond.static ({ cls := "java/lang/Float", name := "floatToIntBits", desc := "(F)I" } : Jvm.MethodName)) ∈ lw_all := lw_g (lw_at lw_m1 173 rfl) rfl
theorem q238 : (Jvm.Cond.code ({ cls := "java/lang/Float", name := "floatToIntBits", desc := "(F)I" } : Jvm.MethodName) prog_35_method_24_code (1 : Nat) (Option.some Jvm.ClassFile.FieldType.int)) ∈ lw_all := lw_g (lw_at lw_m1 174 rfl) rfl
theorem q239 : (Jvm.Cond.methodLink "java/lang/Float" (59 : Nat) ({ cls := "java/lang/Float", name := "isNaN", desc := "(F)Z" } : Jvm.MethodName)) ∈ lw_all := lw_g (lw_at lw_m1 175 rfl) rfl
theorem q240 : (Jvm.Cond.static ({ cls := "java/lang/Float", name := "isNaN", desc := "(F)Z" } : Jvm.MethodName)) ∈ lw_all := lw_g (lw_at lw_m1 176 rfl) rfl
theorem q241 : (Jvm.Cond.code ({ cls := "java/lang/Float", name := "isNaN", desc := "(F)Z" } : Jvm.MethodName) prog_35_method_6_code (1 : Nat) (Option.some Jvm.ClassFile.FieldType.boolean)) ∈ lw_all := lw_g (lw_at lw_m1 177 rfl) rfl
theorem q242 : (Jvm.Cond.methodLink "java/lang/Float" (74 : Nat) ({ cls := "java/lang/Float", name := "floatToRawIntBits", desc := "(F)I" } : Jvm.MethodName)) ∈ lw_all := lw_g (lw_at lw_m1 178 rfl) rfl
theorem q243 : (Jvm.Cond.static ({ cls := "java/lang/Float", name := "floatToRawIntBits", desc := "(F)I" } : Jvm.MethodName)) ∈ lw_all := lw_g (lw_at lw_m1 179 rfl) rfl
theorem q244 : (Jvm.Cond.native ({ cls := "java/lang/Float", name := "floatToRawIntBits", desc := "(F)I" } : Jvm.MethodName)) ∈ lw_all := lw_g (lw_at lw_m1 180 rfl) rfl
theorem q245 : (Jvm.Cond.constant "java/lang/Float" (77 : Nat) (2143289344 : Int32)) ∈ lw_all := lw_g (lw_at lw_m1 181 rfl) rfl
theorem q587 : (Jvm.Cond.static ({ cls := "java/lang/Float", name := "intBitsToFloat", desc := "(I)F" } : Jvm.MethodName)) ∈ lw_all := lw_g (lw_at lw_m3 43 rfl) rfl
theorem q588 : (Jvm.Cond.native ({ cls := "java/lang/Float", name := "intBitsToFloat", desc := "(I)F" } : Jvm.MethodName)) ∈ lw_all := lw_g (lw_at lw_m3 44 rfl) rfl

/-! java/lang/Double -/
set_option maxRecDepth 100000
def RJ12 : String := "java/lang/Double"
abbrev cJ12_doubleToLongBits : ByteArray := prog_33_method_23_code
def yJ12_doubleToLongBits : MethodName := ⟨RJ12, "doubleToLongBits", "(D)J"⟩
def dkwJ12_doubleToLongBits_0 : List UInt8 := [38, 184, 0, 122, 154, 0, 8, 38, 184, 0, 134, 173, 20, 0, 137, 173]
abbrev dktJ12_doubleToLongBits_0 : List UInt8 := dkwJ12_doubleToLongBits_0 ++ []
theorem dksJ12_doubleToLongBits_0 : cJ12_doubleToLongBits.data.toList.drop 0 = dktJ12_doubleToLongBits_0 := by decide +kernel
theorem dJ12_doubleToLongBits_0 : decode cJ12_doubleToLongBits 0 = .ok (.dload_n 0, 1) := dk_38 (dk_at dksJ12_doubleToLongBits_0 0 rfl rfl)
theorem dJ12_doubleToLongBits_1 : decode cJ12_doubleToLongBits 1 = .ok (.invokestatic 122, 3) := dk_184 0 122 (dk_at dksJ12_doubleToLongBits_0 1 rfl rfl)
theorem dJ12_doubleToLongBits_4 : decode cJ12_doubleToLongBits 4 = .ok (.ifCond .ne 8, 3) := dk_154 0 8 (dk_at dksJ12_doubleToLongBits_0 4 rfl rfl)
theorem dJ12_doubleToLongBits_7 : decode cJ12_doubleToLongBits 7 = .ok (.dload_n 0, 1) := dk_38 (dk_at dksJ12_doubleToLongBits_0 7 rfl rfl)
theorem dJ12_doubleToLongBits_8 : decode cJ12_doubleToLongBits 8 = .ok (.invokestatic 134, 3) := dk_184 0 134 (dk_at dksJ12_doubleToLongBits_0 8 rfl rfl)
theorem dJ12_doubleToLongBits_11 : decode cJ12_doubleToLongBits 11 = .ok (.lreturn, 1) := dk_173 (dk_at dksJ12_doubleToLongBits_0 11 rfl rfl)
theorem dJ12_doubleToLongBits_12 : decode cJ12_doubleToLongBits 12 = .ok (.ldc2_w 137, 3) := dk_20 0 137 (dk_at dksJ12_doubleToLongBits_0 12 rfl rfl)
theorem dJ12_doubleToLongBits_15 : decode cJ12_doubleToLongBits 15 = .ok (.lreturn, 1) := dk_173 (dk_at dksJ12_doubleToLongBits_0 15 rfl rfl)
abbrev cJ12_isNaN : ByteArray := prog_33_method_6_code
def yJ12_isNaN : MethodName := ⟨RJ12, "isNaN", "(D)Z"⟩
def dkwJ12_isNaN_0 : List UInt8 := [38, 38, 151, 153, 0, 7, 4, 167, 0, 4, 3, 172]
abbrev dktJ12_isNaN_0 : List UInt8 := dkwJ12_isNaN_0 ++ []
theorem dksJ12_isNaN_0 : cJ12_isNaN.data.toList.drop 0 = dktJ12_isNaN_0 := by decide +kernel
theorem dJ12_isNaN_0 : decode cJ12_isNaN 0 = .ok (.dload_n 0, 1) := dk_38 (dk_at dksJ12_isNaN_0 0 rfl rfl)
theorem dJ12_isNaN_1 : decode cJ12_isNaN 1 = .ok (.dload_n 0, 1) := dk_38 (dk_at dksJ12_isNaN_0 1 rfl rfl)
theorem dJ12_isNaN_2 : decode cJ12_isNaN 2 = .ok (.dcmp .l, 1) := dk_151 (dk_at dksJ12_isNaN_0 2 rfl rfl)
theorem dJ12_isNaN_3 : decode cJ12_isNaN 3 = .ok (.ifCond .eq 7, 3) := dk_153 0 7 (dk_at dksJ12_isNaN_0 3 rfl rfl)
theorem dJ12_isNaN_6 : decode cJ12_isNaN 6 = .ok (.iconst 1, 1) := dk_4 (dk_at dksJ12_isNaN_0 6 rfl rfl)
theorem dJ12_isNaN_7 : decode cJ12_isNaN 7 = .ok (.goto 4, 3) := dk_167 0 4 (dk_at dksJ12_isNaN_0 7 rfl rfl)
theorem dJ12_isNaN_10 : decode cJ12_isNaN 10 = .ok (.iconst 0, 1) := dk_3 (dk_at dksJ12_isNaN_0 10 rfl rfl)
theorem dJ12_isNaN_11 : decode cJ12_isNaN 11 = .ok (.ireturn, 1) := dk_172 (dk_at dksJ12_isNaN_0 11 rfl rfl)
theorem q84 : (Jvm.Cond.initialized "java/lang/Double") ∈ lw_all := lw_g (lw_at lw_m1 20 rfl) rfl
theorem q227 : (Jvm.Cond.static ({ cls := "java/lang/Double", name := "doubleToLongBits", desc := "(D)J" } : Jvm.MethodName)) ∈ lw_all := lw_g (lw_at lw_m1 163 rfl) rfl
theorem q228 : (Jvm.Cond.code ({ cls := "java/lang/Double", name := "doubleToLongBits", desc := "(D)J" } : Jvm.MethodName) prog_33_method_23_code (2 : Nat) (Option.some Jvm.ClassFile.FieldType.long)) ∈ lw_all := lw_g (lw_at lw_m1 164 rfl) rfl
theorem q229 : (Jvm.Cond.methodLink "java/lang/Double" (122 : Nat) ({ cls := "java/lang/Double", name := "isNaN", desc := "(D)Z" } : Jvm.MethodName)) ∈ lw_all := lw_g (lw_at lw_m1 165 rfl) rfl
theorem q230 : (Jvm.Cond.static ({ cls := "java/lang/Double", name := "isNaN", desc := "(D)Z" } : Jvm.MethodName)) ∈ lw_all := lw_g (lw_at lw_m1 166 rfl) rfl
theorem q231 : (Jvm.Cond.code ({ cls := "java/lang/Double", name := "isNaN", desc := "(D)Z" } : Jvm.MethodName) prog_33_method_6_code (2 : Nat) (Option.some Jvm.ClassFile.FieldType.boolean)) ∈ lw_all := lw_g (lw_at lw_m1 167 rfl) rfl
theorem q232 : (Jvm.Cond.methodLink "java/lang/Double" (134 : Nat) ({ cls := "java/lang/Double", name := "doubleToRawLongBits", desc := "(D)J" } : Jvm.MethodName)) ∈ lw_all := lw_g (lw_at lw_m1 168 rfl) rfl
theorem q233 : (Jvm.Cond.static ({ cls := "java/lang/Double", name := "doubleToRawLongBits", desc := "(D)J" } : Jvm.MethodName)) ∈ lw_all := lw_g (lw_at lw_m1 169 rfl) rfl
theorem q234 : (Jvm.Cond.native ({ cls := "java/lang/Double", name := "doubleToRawLongBits", desc := "(D)J" } : Jvm.MethodName)) ∈ lw_all := lw_g (lw_at lw_m1 170 rfl) rfl
theorem q235 : (Jvm.Cond.constantLong "java/lang/Double" (137 : Nat) (9221120237041090560 : Int64)) ∈ lw_all := lw_g (lw_at lw_m1 171 rfl) rfl
theorem q313 : (Jvm.Cond.static ({ cls := "java/lang/Double", name := "longBitsToDouble", desc := "(J)D" } : Jvm.MethodName)) ∈ lw_all := lw_g (lw_at lw_m2 9 rfl) rfl
theorem q314 : (Jvm.Cond.native ({ cls := "java/lang/Double", name := "longBitsToDouble", desc := "(J)D" } : Jvm.MethodName)) ∈ lw_all := lw_g (lw_at lw_m2 10 rfl) rfl

/-! java/lang/Math -/
set_option maxRecDepth 100000
def RJ13 : String := "java/lang/Math"
abbrev cJ13_max : ByteArray := prog_38_method_65_code
def yJ13_max : MethodName := ⟨RJ13, "max", "(II)I"⟩
def dkwJ13_max_0 : List UInt8 := [26, 27, 161, 0, 7, 26, 167, 0, 4, 27, 172]
abbrev dktJ13_max_0 : List UInt8 := dkwJ13_max_0 ++ []
theorem dksJ13_max_0 : cJ13_max.data.toList.drop 0 = dktJ13_max_0 := by decide +kernel
theorem dJ13_max_0 : decode cJ13_max 0 = .ok (.iload_n 0, 1) := dk_26 (dk_at dksJ13_max_0 0 rfl rfl)
theorem dJ13_max_1 : decode cJ13_max 1 = .ok (.iload_n 1, 1) := dk_27 (dk_at dksJ13_max_0 1 rfl rfl)
theorem dJ13_max_2 : decode cJ13_max 2 = .ok (.if_icmp .lt 7, 3) := dk_161 0 7 (dk_at dksJ13_max_0 2 rfl rfl)
theorem dJ13_max_5 : decode cJ13_max 5 = .ok (.iload_n 0, 1) := dk_26 (dk_at dksJ13_max_0 5 rfl rfl)
theorem dJ13_max_6 : decode cJ13_max 6 = .ok (.goto 4, 3) := dk_167 0 4 (dk_at dksJ13_max_0 6 rfl rfl)
theorem dJ13_max_9 : decode cJ13_max 9 = .ok (.iload_n 1, 1) := dk_27 (dk_at dksJ13_max_0 9 rfl rfl)
theorem dJ13_max_10 : decode cJ13_max 10 = .ok (.ireturn, 1) := dk_172 (dk_at dksJ13_max_0 10 rfl rfl)
abbrev cJ13_abs : ByteArray := prog_38_method_64_code
def yJ13_abs : MethodName := ⟨RJ13, "abs", "(D)D"⟩
def dkwJ13_abs_0 : List UInt8 := [38, 184, 0, 79, 20, 0, 135, 127, 184, 0, 166, 175]
abbrev dktJ13_abs_0 : List UInt8 := dkwJ13_abs_0 ++ []
theorem dksJ13_abs_0 : cJ13_abs.data.toList.drop 0 = dktJ13_abs_0 := by decide +kernel
theorem dJ13_abs_0 : decode cJ13_abs 0 = .ok (.dload_n 0, 1) := dk_38 (dk_at dksJ13_abs_0 0 rfl rfl)
theorem dJ13_abs_1 : decode cJ13_abs 1 = .ok (.invokestatic 79, 3) := dk_184 0 79 (dk_at dksJ13_abs_0 1 rfl rfl)
theorem dJ13_abs_4 : decode cJ13_abs 4 = .ok (.ldc2_w 135, 3) := dk_20 0 135 (dk_at dksJ13_abs_0 4 rfl rfl)
theorem dJ13_abs_7 : decode cJ13_abs 7 = .ok (.land, 1) := dk_127 (dk_at dksJ13_abs_0 7 rfl rfl)
theorem dJ13_abs_8 : decode cJ13_abs 8 = .ok (.invokestatic 166, 3) := dk_184 0 166 (dk_at dksJ13_abs_0 8 rfl rfl)
theorem dJ13_abs_11 : decode cJ13_abs 11 = .ok (.dreturn, 1) := dk_175 (dk_at dksJ13_abs_0 11 rfl rfl)
abbrev cJ13_max_2 : ByteArray := prog_38_method_68_code
def yJ13_max_2 : MethodName := ⟨RJ13, "max", "(DD)D"⟩
def dkwJ13_max_2_1 : List UInt8 := [178, 0, 174, 148, 154, 0, 5, 40, 175, 38, 40, 151, 155, 0, 7, 38, 167, 0, 4, 40, 175]
abbrev dktJ13_max_2_1 : List UInt8 := dkwJ13_max_2_1 ++ []
def dkwJ13_max_2_0 : List UInt8 := [38, 38, 151, 153, 0, 5, 38, 175, 38, 14, 151, 154, 0, 22, 40, 14, 151, 154, 0, 16, 38, 184, 0, 79]
abbrev dktJ13_max_2_0 : List UInt8 := dkwJ13_max_2_0 ++ dktJ13_max_2_1
theorem dksJ13_max_2_0 : cJ13_max_2.data.toList.drop 0 = dktJ13_max_2_0 := by decide +kernel
theorem dksJ13_max_2_1 : cJ13_max_2.data.toList.drop 24 = dktJ13_max_2_1 := dk_seg dksJ13_max_2_0 24 rfl rfl
theorem dJ13_max_2_0 : decode cJ13_max_2 0 = .ok (.dload_n 0, 1) := dk_38 (dk_at dksJ13_max_2_0 0 rfl rfl)
theorem dJ13_max_2_1 : decode cJ13_max_2 1 = .ok (.dload_n 0, 1) := dk_38 (dk_at dksJ13_max_2_0 1 rfl rfl)
theorem dJ13_max_2_2 : decode cJ13_max_2 2 = .ok (.dcmp .l, 1) := dk_151 (dk_at dksJ13_max_2_0 2 rfl rfl)
theorem dJ13_max_2_3 : decode cJ13_max_2 3 = .ok (.ifCond .eq 5, 3) := dk_153 0 5 (dk_at dksJ13_max_2_0 3 rfl rfl)
theorem dJ13_max_2_6 : decode cJ13_max_2 6 = .ok (.dload_n 0, 1) := dk_38 (dk_at dksJ13_max_2_0 6 rfl rfl)
theorem dJ13_max_2_7 : decode cJ13_max_2 7 = .ok (.dreturn, 1) := dk_175 (dk_at dksJ13_max_2_0 7 rfl rfl)
theorem dJ13_max_2_8 : decode cJ13_max_2 8 = .ok (.dload_n 0, 1) := dk_38 (dk_at dksJ13_max_2_0 8 rfl rfl)
theorem dJ13_max_2_9 : decode cJ13_max_2 9 = .ok (.dconst 0, 1) := dk_14 (dk_at dksJ13_max_2_0 9 rfl rfl)
theorem dJ13_max_2_10 : decode cJ13_max_2 10 = .ok (.dcmp .l, 1) := dk_151 (dk_at dksJ13_max_2_0 10 rfl rfl)
theorem dJ13_max_2_11 : decode cJ13_max_2 11 = .ok (.ifCond .ne 22, 3) := dk_154 0 22 (dk_at dksJ13_max_2_0 11 rfl rfl)
theorem dJ13_max_2_14 : decode cJ13_max_2 14 = .ok (.dload_n 2, 1) := dk_40 (dk_at dksJ13_max_2_0 14 rfl rfl)
theorem dJ13_max_2_15 : decode cJ13_max_2 15 = .ok (.dconst 0, 1) := dk_14 (dk_at dksJ13_max_2_0 15 rfl rfl)
theorem dJ13_max_2_16 : decode cJ13_max_2 16 = .ok (.dcmp .l, 1) := dk_151 (dk_at dksJ13_max_2_0 16 rfl rfl)
theorem dJ13_max_2_17 : decode cJ13_max_2 17 = .ok (.ifCond .ne 16, 3) := dk_154 0 16 (dk_at dksJ13_max_2_0 17 rfl rfl)
theorem dJ13_max_2_20 : decode cJ13_max_2 20 = .ok (.dload_n 0, 1) := dk_38 (dk_at dksJ13_max_2_0 20 rfl rfl)
theorem dJ13_max_2_21 : decode cJ13_max_2 21 = .ok (.invokestatic 79, 3) := dk_184 0 79 (dk_at dksJ13_max_2_0 21 rfl rfl)
theorem dJ13_max_2_24 : decode cJ13_max_2 24 = .ok (.getstatic 174, 3) := dk_178 0 174 (dk_at dksJ13_max_2_1 0 rfl rfl)
theorem dJ13_max_2_27 : decode cJ13_max_2 27 = .ok (.lcmp, 1) := dk_148 (dk_at dksJ13_max_2_1 3 rfl rfl)
theorem dJ13_max_2_28 : decode cJ13_max_2 28 = .ok (.ifCond .ne 5, 3) := dk_154 0 5 (dk_at dksJ13_max_2_1 4 rfl rfl)
theorem dJ13_max_2_31 : decode cJ13_max_2 31 = .ok (.dload_n 2, 1) := dk_40 (dk_at dksJ13_max_2_1 7 rfl rfl)
theorem dJ13_max_2_32 : decode cJ13_max_2 32 = .ok (.dreturn, 1) := dk_175 (dk_at dksJ13_max_2_1 8 rfl rfl)
theorem dJ13_max_2_33 : decode cJ13_max_2 33 = .ok (.dload_n 0, 1) := dk_38 (dk_at dksJ13_max_2_1 9 rfl rfl)
theorem dJ13_max_2_34 : decode cJ13_max_2 34 = .ok (.dload_n 2, 1) := dk_40 (dk_at dksJ13_max_2_1 10 rfl rfl)
theorem dJ13_max_2_35 : decode cJ13_max_2 35 = .ok (.dcmp .l, 1) := dk_151 (dk_at dksJ13_max_2_1 11 rfl rfl)
theorem dJ13_max_2_36 : decode cJ13_max_2 36 = .ok (.ifCond .lt 7, 3) := dk_155 0 7 (dk_at dksJ13_max_2_1 12 rfl rfl)
theorem dJ13_max_2_39 : decode cJ13_max_2 39 = .ok (.dload_n 0, 1) := dk_38 (dk_at dksJ13_max_2_1 15 rfl rfl)
theorem dJ13_max_2_40 : decode cJ13_max_2 40 = .ok (.goto 4, 3) := dk_167 0 4 (dk_at dksJ13_max_2_1 16 rfl rfl)
theorem dJ13_max_2_43 : decode cJ13_max_2 43 = .ok (.dload_n 2, 1) := dk_40 (dk_at dksJ13_max_2_1 19 rfl rfl)
theorem dJ13_max_2_44 : decode cJ13_max_2 44 = .ok (.dreturn, 1) := dk_175 (dk_at dksJ13_max_2_1 20 rfl rfl)
abbrev cJ13_copySign : ByteArray := prog_38_method_89_code
def yJ13_copySign : MethodName := ⟨RJ13, "copySign", "(DD)D"⟩
def dkwJ13_copySign_0 : List UInt8 := [40, 184, 0, 79, 20, 0, 128, 127, 38, 184, 0, 79, 20, 0, 135, 127, 129, 184, 0, 166, 175]
abbrev dktJ13_copySign_0 : List UInt8 := dkwJ13_copySign_0 ++ []
theorem dksJ13_copySign_0 : cJ13_copySign.data.toList.drop 0 = dktJ13_copySign_0 := by decide +kernel
theorem dJ13_copySign_0 : decode cJ13_copySign 0 = .ok (.dload_n 2, 1) := dk_40 (dk_at dksJ13_copySign_0 0 rfl rfl)
theorem dJ13_copySign_1 : decode cJ13_copySign 1 = .ok (.invokestatic 79, 3) := dk_184 0 79 (dk_at dksJ13_copySign_0 1 rfl rfl)
theorem dJ13_copySign_4 : decode cJ13_copySign 4 = .ok (.ldc2_w 128, 3) := dk_20 0 128 (dk_at dksJ13_copySign_0 4 rfl rfl)
theorem dJ13_copySign_7 : decode cJ13_copySign 7 = .ok (.land, 1) := dk_127 (dk_at dksJ13_copySign_0 7 rfl rfl)
theorem dJ13_copySign_8 : decode cJ13_copySign 8 = .ok (.dload_n 0, 1) := dk_38 (dk_at dksJ13_copySign_0 8 rfl rfl)
theorem dJ13_copySign_9 : decode cJ13_copySign 9 = .ok (.invokestatic 79, 3) := dk_184 0 79 (dk_at dksJ13_copySign_0 9 rfl rfl)
theorem dJ13_copySign_12 : decode cJ13_copySign 12 = .ok (.ldc2_w 135, 3) := dk_20 0 135 (dk_at dksJ13_copySign_0 12 rfl rfl)
theorem dJ13_copySign_15 : decode cJ13_copySign 15 = .ok (.land, 1) := dk_127 (dk_at dksJ13_copySign_0 15 rfl rfl)
theorem dJ13_copySign_16 : decode cJ13_copySign 16 = .ok (.lor, 1) := dk_129 (dk_at dksJ13_copySign_0 16 rfl rfl)
theorem dJ13_copySign_17 : decode cJ13_copySign 17 = .ok (.invokestatic 166, 3) := dk_184 0 166 (dk_at dksJ13_copySign_0 17 rfl rfl)
theorem dJ13_copySign_20 : decode cJ13_copySign 20 = .ok (.dreturn, 1) := dk_175 (dk_at dksJ13_copySign_0 20 rfl rfl)
abbrev cJ13_rint : ByteArray := prog_38_method_18_code
def yJ13_rint : MethodName := ⟨RJ13, "rint", "(D)D"⟩
theorem dJ13_rint_0 : decode cJ13_rint 0 = .ok (.dload_n 0, 1) := by decide +kernel
theorem dJ13_rint_1 : decode cJ13_rint 1 = .ok (.invokestatic 59, 3) := by decide +kernel
theorem dJ13_rint_4 : decode cJ13_rint 4 = .ok (.dreturn, 1) := by decide +kernel
abbrev cJ13_floor : ByteArray := prog_38_method_17_code
def yJ13_floor : MethodName := ⟨RJ13, "floor", "(D)D"⟩
theorem dJ13_floor_0 : decode cJ13_floor 0 = .ok (.dload_n 0, 1) := by decide +kernel
theorem dJ13_floor_1 : decode cJ13_floor 1 = .ok (.invokestatic 56, 3) := by decide +kernel
theorem dJ13_floor_4 : decode cJ13_floor 4 = .ok (.dreturn, 1) := by decide +kernel
abbrev cJ13_getExponent : ByteArray := prog_38_method_92_code
def yJ13_getExponent : MethodName := ⟨RJ13, "getExponent", "(D)I"⟩
def dkwJ13_getExponent_0 : List UInt8 := [38, 184, 0, 79, 20, 0, 87, 127, 16, 52, 123, 20, 1, 66, 101, 136, 172]
abbrev dktJ13_getExponent_0 : List UInt8 := dkwJ13_getExponent_0 ++ []
theorem dksJ13_getExponent_0 : cJ13_getExponent.data.toList.drop 0 = dktJ13_getExponent_0 := by decide +kernel
theorem dJ13_getExponent_0 : decode cJ13_getExponent 0 = .ok (.dload_n 0, 1) := dk_38 (dk_at dksJ13_getExponent_0 0 rfl rfl)
theorem dJ13_getExponent_1 : decode cJ13_getExponent 1 = .ok (.invokestatic 79, 3) := dk_184 0 79 (dk_at dksJ13_getExponent_0 1 rfl rfl)
theorem dJ13_getExponent_4 : decode cJ13_getExponent 4 = .ok (.ldc2_w 87, 3) := dk_20 0 87 (dk_at dksJ13_getExponent_0 4 rfl rfl)
theorem dJ13_getExponent_7 : decode cJ13_getExponent 7 = .ok (.land, 1) := dk_127 (dk_at dksJ13_getExponent_0 7 rfl rfl)
theorem dJ13_getExponent_8 : decode cJ13_getExponent 8 = .ok (.bipush 52, 2) := dk_16 52 (dk_at dksJ13_getExponent_0 8 rfl rfl)
theorem dJ13_getExponent_10 : decode cJ13_getExponent 10 = .ok (.lshr, 1) := dk_123 (dk_at dksJ13_getExponent_0 10 rfl rfl)
theorem dJ13_getExponent_11 : decode cJ13_getExponent 11 = .ok (.ldc2_w 322, 3) := dk_20 1 66 (dk_at dksJ13_getExponent_0 11 rfl rfl)
theorem dJ13_getExponent_14 : decode cJ13_getExponent 14 = .ok (.lsub, 1) := dk_101 (dk_at dksJ13_getExponent_0 14 rfl rfl)
theorem dJ13_getExponent_15 : decode cJ13_getExponent 15 = .ok (.l2i, 1) := dk_136 (dk_at dksJ13_getExponent_0 15 rfl rfl)
theorem dJ13_getExponent_16 : decode cJ13_getExponent 16 = .ok (.ireturn, 1) := dk_172 (dk_at dksJ13_getExponent_0 16 rfl rfl)
abbrev cJ13_ceil : ByteArray := prog_38_method_16_code
def yJ13_ceil : MethodName := ⟨RJ13, "ceil", "(D)D"⟩
theorem dJ13_ceil_0 : decode cJ13_ceil 0 = .ok (.dload_n 0, 1) := by decide +kernel
theorem dJ13_ceil_1 : decode cJ13_ceil 1 = .ok (.invokestatic 53, 3) := by decide +kernel
theorem dJ13_ceil_4 : decode cJ13_ceil 4 = .ok (.dreturn, 1) := by decide +kernel
abbrev cJ13_abs_2 : ByteArray := prog_38_method_63_code
def yJ13_abs_2 : MethodName := ⟨RJ13, "abs", "(F)F"⟩
def dkwJ13_abs_2_0 : List UInt8 := [34, 184, 0, 68, 18, 134, 126, 184, 0, 162, 174]
abbrev dktJ13_abs_2_0 : List UInt8 := dkwJ13_abs_2_0 ++ []
theorem dksJ13_abs_2_0 : cJ13_abs_2.data.toList.drop 0 = dktJ13_abs_2_0 := by decide +kernel
theorem dJ13_abs_2_0 : decode cJ13_abs_2 0 = .ok (.fload_n 0, 1) := dk_34 (dk_at dksJ13_abs_2_0 0 rfl rfl)
theorem dJ13_abs_2_1 : decode cJ13_abs_2 1 = .ok (.invokestatic 68, 3) := dk_184 0 68 (dk_at dksJ13_abs_2_0 1 rfl rfl)
theorem dJ13_abs_2_4 : decode cJ13_abs_2 4 = .ok (.ldc 134, 2) := dk_18 134 (dk_at dksJ13_abs_2_0 4 rfl rfl)
theorem dJ13_abs_2_6 : decode cJ13_abs_2 6 = .ok (.iand, 1) := dk_126 (dk_at dksJ13_abs_2_0 6 rfl rfl)
theorem dJ13_abs_2_7 : decode cJ13_abs_2 7 = .ok (.invokestatic 162, 3) := dk_184 0 162 (dk_at dksJ13_abs_2_0 7 rfl rfl)
theorem dJ13_abs_2_10 : decode cJ13_abs_2 10 = .ok (.freturn, 1) := dk_174 (dk_at dksJ13_abs_2_0 10 rfl rfl)
abbrev cJ13_signum : ByteArray := prog_38_method_82_code
def yJ13_signum : MethodName := ⟨RJ13, "signum", "(F)F"⟩
def dkwJ13_signum_0 : List UInt8 := [34, 11, 149, 153, 0, 10, 34, 184, 0, 224, 153, 0, 7, 34, 167, 0, 8, 12, 34, 184, 1, 46, 174]
abbrev dktJ13_signum_0 : List UInt8 := dkwJ13_signum_0 ++ []
theorem dksJ13_signum_0 : cJ13_signum.data.toList.drop 0 = dktJ13_signum_0 := by decide +kernel
theorem dJ13_signum_0 : decode cJ13_signum 0 = .ok (.fload_n 0, 1) := dk_34 (dk_at dksJ13_signum_0 0 rfl rfl)
theorem dJ13_signum_1 : decode cJ13_signum 1 = .ok (.fconst 0, 1) := dk_11 (dk_at dksJ13_signum_0 1 rfl rfl)
theorem dJ13_signum_2 : decode cJ13_signum 2 = .ok (.fcmp .l, 1) := dk_149 (dk_at dksJ13_signum_0 2 rfl rfl)
theorem dJ13_signum_3 : decode cJ13_signum 3 = .ok (.ifCond .eq 10, 3) := dk_153 0 10 (dk_at dksJ13_signum_0 3 rfl rfl)
theorem dJ13_signum_6 : decode cJ13_signum 6 = .ok (.fload_n 0, 1) := dk_34 (dk_at dksJ13_signum_0 6 rfl rfl)
theorem dJ13_signum_7 : decode cJ13_signum 7 = .ok (.invokestatic 224, 3) := dk_184 0 224 (dk_at dksJ13_signum_0 7 rfl rfl)
theorem dJ13_signum_10 : decode cJ13_signum 10 = .ok (.ifCond .eq 7, 3) := dk_153 0 7 (dk_at dksJ13_signum_0 10 rfl rfl)
theorem dJ13_signum_13 : decode cJ13_signum 13 = .ok (.fload_n 0, 1) := dk_34 (dk_at dksJ13_signum_0 13 rfl rfl)
theorem dJ13_signum_14 : decode cJ13_signum 14 = .ok (.goto 8, 3) := dk_167 0 8 (dk_at dksJ13_signum_0 14 rfl rfl)
theorem dJ13_signum_17 : decode cJ13_signum 17 = .ok (.fconst 1, 1) := dk_12 (dk_at dksJ13_signum_0 17 rfl rfl)
theorem dJ13_signum_18 : decode cJ13_signum 18 = .ok (.fload_n 0, 1) := dk_34 (dk_at dksJ13_signum_0 18 rfl rfl)
theorem dJ13_signum_19 : decode cJ13_signum 19 = .ok (.invokestatic 302, 3) := dk_184 1 46 (dk_at dksJ13_signum_0 19 rfl rfl)
theorem dJ13_signum_22 : decode cJ13_signum 22 = .ok (.freturn, 1) := dk_174 (dk_at dksJ13_signum_0 22 rfl rfl)
abbrev cJ13_copySign_2 : ByteArray := prog_38_method_90_code
def yJ13_copySign_2 : MethodName := ⟨RJ13, "copySign", "(FF)F"⟩
def dkwJ13_copySign_2_0 : List UInt8 := [35, 184, 0, 68, 18, 137, 126, 34, 184, 0, 68, 18, 134, 126, 128, 184, 0, 162, 174]
abbrev dktJ13_copySign_2_0 : List UInt8 := dkwJ13_copySign_2_0 ++ []
theorem dksJ13_copySign_2_0 : cJ13_copySign_2.data.toList.drop 0 = dktJ13_copySign_2_0 := by decide +kernel
theorem dJ13_copySign_2_0 : decode cJ13_copySign_2 0 = .ok (.fload_n 1, 1) := dk_35 (dk_at dksJ13_copySign_2_0 0 rfl rfl)
theorem dJ13_copySign_2_1 : decode cJ13_copySign_2 1 = .ok (.invokestatic 68, 3) := dk_184 0 68 (dk_at dksJ13_copySign_2_0 1 rfl rfl)
theorem dJ13_copySign_2_4 : decode cJ13_copySign_2 4 = .ok (.ldc 137, 2) := dk_18 137 (dk_at dksJ13_copySign_2_0 4 rfl rfl)
theorem dJ13_copySign_2_6 : decode cJ13_copySign_2 6 = .ok (.iand, 1) := dk_126 (dk_at dksJ13_copySign_2_0 6 rfl rfl)
theorem dJ13_copySign_2_7 : decode cJ13_copySign_2 7 = .ok (.fload_n 0, 1) := dk_34 (dk_at dksJ13_copySign_2_0 7 rfl rfl)
theorem dJ13_copySign_2_8 : decode cJ13_copySign_2 8 = .ok (.invokestatic 68, 3) := dk_184 0 68 (dk_at dksJ13_copySign_2_0 8 rfl rfl)
theorem dJ13_copySign_2_11 : decode cJ13_copySign_2 11 = .ok (.ldc 134, 2) := dk_18 134 (dk_at dksJ13_copySign_2_0 11 rfl rfl)
theorem dJ13_copySign_2_13 : decode cJ13_copySign_2 13 = .ok (.iand, 1) := dk_126 (dk_at dksJ13_copySign_2_0 13 rfl rfl)
theorem dJ13_copySign_2_14 : decode cJ13_copySign_2 14 = .ok (.ior, 1) := dk_128 (dk_at dksJ13_copySign_2_0 14 rfl rfl)
theorem dJ13_copySign_2_15 : decode cJ13_copySign_2 15 = .ok (.invokestatic 162, 3) := dk_184 0 162 (dk_at dksJ13_copySign_2_0 15 rfl rfl)
theorem dJ13_copySign_2_18 : decode cJ13_copySign_2 18 = .ok (.freturn, 1) := dk_174 (dk_at dksJ13_copySign_2_0 18 rfl rfl)
abbrev cJ13_min : ByteArray := prog_38_method_71_code
def yJ13_min : MethodName := ⟨RJ13, "min", "(FF)F"⟩
def dkwJ13_min_1 : List UInt8 := [133, 178, 0, 170, 148, 154, 0, 5, 35, 174, 34, 35, 150, 157, 0, 7, 34, 167, 0, 4, 35, 174]
abbrev dktJ13_min_1 : List UInt8 := dkwJ13_min_1 ++ []
def dkwJ13_min_0 : List UInt8 := [34, 34, 149, 153, 0, 5, 34, 174, 34, 11, 149, 154, 0, 23, 35, 11, 149, 154, 0, 17, 35, 184, 0, 68]
abbrev dktJ13_min_0 : List UInt8 := dkwJ13_min_0 ++ dktJ13_min_1
theorem dksJ13_min_0 : cJ13_min.data.toList.drop 0 = dktJ13_min_0 := by decide +kernel
theorem dksJ13_min_1 : cJ13_min.data.toList.drop 24 = dktJ13_min_1 := dk_seg dksJ13_min_0 24 rfl rfl
theorem dJ13_min_0 : decode cJ13_min 0 = .ok (.fload_n 0, 1) := dk_34 (dk_at dksJ13_min_0 0 rfl rfl)
theorem dJ13_min_1 : decode cJ13_min 1 = .ok (.fload_n 0, 1) := dk_34 (dk_at dksJ13_min_0 1 rfl rfl)
theorem dJ13_min_2 : decode cJ13_min 2 = .ok (.fcmp .l, 1) := dk_149 (dk_at dksJ13_min_0 2 rfl rfl)
theorem dJ13_min_3 : decode cJ13_min 3 = .ok (.ifCond .eq 5, 3) := dk_153 0 5 (dk_at dksJ13_min_0 3 rfl rfl)
theorem dJ13_min_6 : decode cJ13_min 6 = .ok (.fload_n 0, 1) := dk_34 (dk_at dksJ13_min_0 6 rfl rfl)
theorem dJ13_min_7 : decode cJ13_min 7 = .ok (.freturn, 1) := dk_174 (dk_at dksJ13_min_0 7 rfl rfl)
theorem dJ13_min_8 : decode cJ13_min 8 = .ok (.fload_n 0, 1) := dk_34 (dk_at dksJ13_min_0 8 rfl rfl)
theorem dJ13_min_9 : decode cJ13_min 9 = .ok (.fconst 0, 1) := dk_11 (dk_at dksJ13_min_0 9 rfl rfl)
theorem dJ13_min_10 : decode cJ13_min 10 = .ok (.fcmp .l, 1) := dk_149 (dk_at dksJ13_min_0 10 rfl rfl)
theorem dJ13_min_11 : decode cJ13_min 11 = .ok (.ifCond .ne 23, 3) := dk_154 0 23 (dk_at dksJ13_min_0 11 rfl rfl)
theorem dJ13_min_14 : decode cJ13_min 14 = .ok (.fload_n 1, 1) := dk_35 (dk_at dksJ13_min_0 14 rfl rfl)
theorem dJ13_min_15 : decode cJ13_min 15 = .ok (.fconst 0, 1) := dk_11 (dk_at dksJ13_min_0 15 rfl rfl)
theorem dJ13_min_16 : decode cJ13_min 16 = .ok (.fcmp .l, 1) := dk_149 (dk_at dksJ13_min_0 16 rfl rfl)
theorem dJ13_min_17 : decode cJ13_min 17 = .ok (.ifCond .ne 17, 3) := dk_154 0 17 (dk_at dksJ13_min_0 17 rfl rfl)
theorem dJ13_min_20 : decode cJ13_min 20 = .ok (.fload_n 1, 1) := dk_35 (dk_at dksJ13_min_0 20 rfl rfl)
theorem dJ13_min_21 : decode cJ13_min 21 = .ok (.invokestatic 68, 3) := dk_184 0 68 (dk_at dksJ13_min_0 21 rfl rfl)
theorem dJ13_min_24 : decode cJ13_min 24 = .ok (.i2l, 1) := dk_133 (dk_at dksJ13_min_1 0 rfl rfl)
theorem dJ13_min_25 : decode cJ13_min 25 = .ok (.getstatic 170, 3) := dk_178 0 170 (dk_at dksJ13_min_1 1 rfl rfl)
theorem dJ13_min_28 : decode cJ13_min 28 = .ok (.lcmp, 1) := dk_148 (dk_at dksJ13_min_1 4 rfl rfl)
theorem dJ13_min_29 : decode cJ13_min 29 = .ok (.ifCond .ne 5, 3) := dk_154 0 5 (dk_at dksJ13_min_1 5 rfl rfl)
theorem dJ13_min_32 : decode cJ13_min 32 = .ok (.fload_n 1, 1) := dk_35 (dk_at dksJ13_min_1 8 rfl rfl)
theorem dJ13_min_33 : decode cJ13_min 33 = .ok (.freturn, 1) := dk_174 (dk_at dksJ13_min_1 9 rfl rfl)
theorem dJ13_min_34 : decode cJ13_min 34 = .ok (.fload_n 0, 1) := dk_34 (dk_at dksJ13_min_1 10 rfl rfl)
theorem dJ13_min_35 : decode cJ13_min 35 = .ok (.fload_n 1, 1) := dk_35 (dk_at dksJ13_min_1 11 rfl rfl)
theorem dJ13_min_36 : decode cJ13_min 36 = .ok (.fcmp .g, 1) := dk_150 (dk_at dksJ13_min_1 12 rfl rfl)
theorem dJ13_min_37 : decode cJ13_min 37 = .ok (.ifCond .gt 7, 3) := dk_157 0 7 (dk_at dksJ13_min_1 13 rfl rfl)
theorem dJ13_min_40 : decode cJ13_min 40 = .ok (.fload_n 0, 1) := dk_34 (dk_at dksJ13_min_1 16 rfl rfl)
theorem dJ13_min_41 : decode cJ13_min 41 = .ok (.goto 4, 3) := dk_167 0 4 (dk_at dksJ13_min_1 17 rfl rfl)
theorem dJ13_min_44 : decode cJ13_min 44 = .ok (.fload_n 1, 1) := dk_35 (dk_at dksJ13_min_1 20 rfl rfl)
theorem dJ13_min_45 : decode cJ13_min 45 = .ok (.freturn, 1) := dk_174 (dk_at dksJ13_min_1 21 rfl rfl)
abbrev cJ13_max_3 : ByteArray := prog_38_method_67_code
def yJ13_max_3 : MethodName := ⟨RJ13, "max", "(FF)F"⟩
def dkwJ13_max_3_1 : List UInt8 := [133, 178, 0, 170, 148, 154, 0, 5, 35, 174, 34, 35, 149, 155, 0, 7, 34, 167, 0, 4, 35, 174]
abbrev dktJ13_max_3_1 : List UInt8 := dkwJ13_max_3_1 ++ []
def dkwJ13_max_3_0 : List UInt8 := [34, 34, 149, 153, 0, 5, 34, 174, 34, 11, 149, 154, 0, 23, 35, 11, 149, 154, 0, 17, 34, 184, 0, 68]
abbrev dktJ13_max_3_0 : List UInt8 := dkwJ13_max_3_0 ++ dktJ13_max_3_1
theorem dksJ13_max_3_0 : cJ13_max_3.data.toList.drop 0 = dktJ13_max_3_0 := by decide +kernel
theorem dksJ13_max_3_1 : cJ13_max_3.data.toList.drop 24 = dktJ13_max_3_1 := dk_seg dksJ13_max_3_0 24 rfl rfl
theorem dJ13_max_3_0 : decode cJ13_max_3 0 = .ok (.fload_n 0, 1) := dk_34 (dk_at dksJ13_max_3_0 0 rfl rfl)
theorem dJ13_max_3_1 : decode cJ13_max_3 1 = .ok (.fload_n 0, 1) := dk_34 (dk_at dksJ13_max_3_0 1 rfl rfl)
theorem dJ13_max_3_2 : decode cJ13_max_3 2 = .ok (.fcmp .l, 1) := dk_149 (dk_at dksJ13_max_3_0 2 rfl rfl)
theorem dJ13_max_3_3 : decode cJ13_max_3 3 = .ok (.ifCond .eq 5, 3) := dk_153 0 5 (dk_at dksJ13_max_3_0 3 rfl rfl)
theorem dJ13_max_3_6 : decode cJ13_max_3 6 = .ok (.fload_n 0, 1) := dk_34 (dk_at dksJ13_max_3_0 6 rfl rfl)
theorem dJ13_max_3_7 : decode cJ13_max_3 7 = .ok (.freturn, 1) := dk_174 (dk_at dksJ13_max_3_0 7 rfl rfl)
theorem dJ13_max_3_8 : decode cJ13_max_3 8 = .ok (.fload_n 0, 1) := dk_34 (dk_at dksJ13_max_3_0 8 rfl rfl)
theorem dJ13_max_3_9 : decode cJ13_max_3 9 = .ok (.fconst 0, 1) := dk_11 (dk_at dksJ13_max_3_0 9 rfl rfl)
theorem dJ13_max_3_10 : decode cJ13_max_3 10 = .ok (.fcmp .l, 1) := dk_149 (dk_at dksJ13_max_3_0 10 rfl rfl)
theorem dJ13_max_3_11 : decode cJ13_max_3 11 = .ok (.ifCond .ne 23, 3) := dk_154 0 23 (dk_at dksJ13_max_3_0 11 rfl rfl)
theorem dJ13_max_3_14 : decode cJ13_max_3 14 = .ok (.fload_n 1, 1) := dk_35 (dk_at dksJ13_max_3_0 14 rfl rfl)
theorem dJ13_max_3_15 : decode cJ13_max_3 15 = .ok (.fconst 0, 1) := dk_11 (dk_at dksJ13_max_3_0 15 rfl rfl)
theorem dJ13_max_3_16 : decode cJ13_max_3 16 = .ok (.fcmp .l, 1) := dk_149 (dk_at dksJ13_max_3_0 16 rfl rfl)
theorem dJ13_max_3_17 : decode cJ13_max_3 17 = .ok (.ifCond .ne 17, 3) := dk_154 0 17 (dk_at dksJ13_max_3_0 17 rfl rfl)
theorem dJ13_max_3_20 : decode cJ13_max_3 20 = .ok (.fload_n 0, 1) := dk_34 (dk_at dksJ13_max_3_0 20 rfl rfl)
theorem dJ13_max_3_21 : decode cJ13_max_3 21 = .ok (.invokestatic 68, 3) := dk_184 0 68 (dk_at dksJ13_max_3_0 21 rfl rfl)
theorem dJ13_max_3_24 : decode cJ13_max_3 24 = .ok (.i2l, 1) := dk_133 (dk_at dksJ13_max_3_1 0 rfl rfl)
theorem dJ13_max_3_25 : decode cJ13_max_3 25 = .ok (.getstatic 170, 3) := dk_178 0 170 (dk_at dksJ13_max_3_1 1 rfl rfl)
theorem dJ13_max_3_28 : decode cJ13_max_3 28 = .ok (.lcmp, 1) := dk_148 (dk_at dksJ13_max_3_1 4 rfl rfl)
theorem dJ13_max_3_29 : decode cJ13_max_3 29 = .ok (.ifCond .ne 5, 3) := dk_154 0 5 (dk_at dksJ13_max_3_1 5 rfl rfl)
theorem dJ13_max_3_32 : decode cJ13_max_3 32 = .ok (.fload_n 1, 1) := dk_35 (dk_at dksJ13_max_3_1 8 rfl rfl)
theorem dJ13_max_3_33 : decode cJ13_max_3 33 = .ok (.freturn, 1) := dk_174 (dk_at dksJ13_max_3_1 9 rfl rfl)
theorem dJ13_max_3_34 : decode cJ13_max_3 34 = .ok (.fload_n 0, 1) := dk_34 (dk_at dksJ13_max_3_1 10 rfl rfl)
theorem dJ13_max_3_35 : decode cJ13_max_3 35 = .ok (.fload_n 1, 1) := dk_35 (dk_at dksJ13_max_3_1 11 rfl rfl)
theorem dJ13_max_3_36 : decode cJ13_max_3 36 = .ok (.fcmp .l, 1) := dk_149 (dk_at dksJ13_max_3_1 12 rfl rfl)
theorem dJ13_max_3_37 : decode cJ13_max_3 37 = .ok (.ifCond .lt 7, 3) := dk_155 0 7 (dk_at dksJ13_max_3_1 13 rfl rfl)
theorem dJ13_max_3_40 : decode cJ13_max_3 40 = .ok (.fload_n 0, 1) := dk_34 (dk_at dksJ13_max_3_1 16 rfl rfl)
theorem dJ13_max_3_41 : decode cJ13_max_3 41 = .ok (.goto 4, 3) := dk_167 0 4 (dk_at dksJ13_max_3_1 17 rfl rfl)
theorem dJ13_max_3_44 : decode cJ13_max_3 44 = .ok (.fload_n 1, 1) := dk_35 (dk_at dksJ13_max_3_1 20 rfl rfl)
theorem dJ13_max_3_45 : decode cJ13_max_3 45 = .ok (.freturn, 1) := dk_174 (dk_at dksJ13_max_3_1 21 rfl rfl)
abbrev cJ13_signum_2 : ByteArray := prog_38_method_81_code
def yJ13_signum_2 : MethodName := ⟨RJ13, "signum", "(D)D"⟩
def dkwJ13_signum_2_0 : List UInt8 := [38, 14, 151, 153, 0, 10, 38, 184, 0, 205, 153, 0, 7, 38, 167, 0, 8, 15, 38, 184, 1, 43, 175]
abbrev dktJ13_signum_2_0 : List UInt8 := dkwJ13_signum_2_0 ++ []
theorem dksJ13_signum_2_0 : cJ13_signum_2.data.toList.drop 0 = dktJ13_signum_2_0 := by decide +kernel
theorem dJ13_signum_2_0 : decode cJ13_signum_2 0 = .ok (.dload_n 0, 1) := dk_38 (dk_at dksJ13_signum_2_0 0 rfl rfl)
theorem dJ13_signum_2_1 : decode cJ13_signum_2 1 = .ok (.dconst 0, 1) := dk_14 (dk_at dksJ13_signum_2_0 1 rfl rfl)
theorem dJ13_signum_2_2 : decode cJ13_signum_2 2 = .ok (.dcmp .l, 1) := dk_151 (dk_at dksJ13_signum_2_0 2 rfl rfl)
theorem dJ13_signum_2_3 : decode cJ13_signum_2 3 = .ok (.ifCond .eq 10, 3) := dk_153 0 10 (dk_at dksJ13_signum_2_0 3 rfl rfl)
theorem dJ13_signum_2_6 : decode cJ13_signum_2 6 = .ok (.dload_n 0, 1) := dk_38 (dk_at dksJ13_signum_2_0 6 rfl rfl)
theorem dJ13_signum_2_7 : decode cJ13_signum_2 7 = .ok (.invokestatic 205, 3) := dk_184 0 205 (dk_at dksJ13_signum_2_0 7 rfl rfl)
theorem dJ13_signum_2_10 : decode cJ13_signum_2 10 = .ok (.ifCond .eq 7, 3) := dk_153 0 7 (dk_at dksJ13_signum_2_0 10 rfl rfl)
theorem dJ13_signum_2_13 : decode cJ13_signum_2 13 = .ok (.dload_n 0, 1) := dk_38 (dk_at dksJ13_signum_2_0 13 rfl rfl)
theorem dJ13_signum_2_14 : decode cJ13_signum_2 14 = .ok (.goto 8, 3) := dk_167 0 8 (dk_at dksJ13_signum_2_0 14 rfl rfl)
theorem dJ13_signum_2_17 : decode cJ13_signum_2 17 = .ok (.dconst 1, 1) := dk_15 (dk_at dksJ13_signum_2_0 17 rfl rfl)
theorem dJ13_signum_2_18 : decode cJ13_signum_2 18 = .ok (.dload_n 0, 1) := dk_38 (dk_at dksJ13_signum_2_0 18 rfl rfl)
theorem dJ13_signum_2_19 : decode cJ13_signum_2 19 = .ok (.invokestatic 299, 3) := dk_184 1 43 (dk_at dksJ13_signum_2_0 19 rfl rfl)
theorem dJ13_signum_2_22 : decode cJ13_signum_2 22 = .ok (.dreturn, 1) := dk_175 (dk_at dksJ13_signum_2_0 22 rfl rfl)
abbrev cJ13_min_2 : ByteArray := prog_38_method_72_code
def yJ13_min_2 : MethodName := ⟨RJ13, "min", "(DD)D"⟩
def dkwJ13_min_2_1 : List UInt8 := [178, 0, 174, 148, 154, 0, 5, 40, 175, 38, 40, 152, 157, 0, 7, 38, 167, 0, 4, 40, 175]
abbrev dktJ13_min_2_1 : List UInt8 := dkwJ13_min_2_1 ++ []
def dkwJ13_min_2_0 : List UInt8 := [38, 38, 151, 153, 0, 5, 38, 175, 38, 14, 151, 154, 0, 22, 40, 14, 151, 154, 0, 16, 40, 184, 0, 79]
abbrev dktJ13_min_2_0 : List UInt8 := dkwJ13_min_2_0 ++ dktJ13_min_2_1
theorem dksJ13_min_2_0 : cJ13_min_2.data.toList.drop 0 = dktJ13_min_2_0 := by decide +kernel
theorem dksJ13_min_2_1 : cJ13_min_2.data.toList.drop 24 = dktJ13_min_2_1 := dk_seg dksJ13_min_2_0 24 rfl rfl
theorem dJ13_min_2_0 : decode cJ13_min_2 0 = .ok (.dload_n 0, 1) := dk_38 (dk_at dksJ13_min_2_0 0 rfl rfl)
theorem dJ13_min_2_1 : decode cJ13_min_2 1 = .ok (.dload_n 0, 1) := dk_38 (dk_at dksJ13_min_2_0 1 rfl rfl)
theorem dJ13_min_2_2 : decode cJ13_min_2 2 = .ok (.dcmp .l, 1) := dk_151 (dk_at dksJ13_min_2_0 2 rfl rfl)
theorem dJ13_min_2_3 : decode cJ13_min_2 3 = .ok (.ifCond .eq 5, 3) := dk_153 0 5 (dk_at dksJ13_min_2_0 3 rfl rfl)
theorem dJ13_min_2_6 : decode cJ13_min_2 6 = .ok (.dload_n 0, 1) := dk_38 (dk_at dksJ13_min_2_0 6 rfl rfl)
theorem dJ13_min_2_7 : decode cJ13_min_2 7 = .ok (.dreturn, 1) := dk_175 (dk_at dksJ13_min_2_0 7 rfl rfl)
theorem dJ13_min_2_8 : decode cJ13_min_2 8 = .ok (.dload_n 0, 1) := dk_38 (dk_at dksJ13_min_2_0 8 rfl rfl)
theorem dJ13_min_2_9 : decode cJ13_min_2 9 = .ok (.dconst 0, 1) := dk_14 (dk_at dksJ13_min_2_0 9 rfl rfl)
theorem dJ13_min_2_10 : decode cJ13_min_2 10 = .ok (.dcmp .l, 1) := dk_151 (dk_at dksJ13_min_2_0 10 rfl rfl)
theorem dJ13_min_2_11 : decode cJ13_min_2 11 = .ok (.ifCond .ne 22, 3) := dk_154 0 22 (dk_at dksJ13_min_2_0 11 rfl rfl)
theorem dJ13_min_2_14 : decode cJ13_min_2 14 = .ok (.dload_n 2, 1) := dk_40 (dk_at dksJ13_min_2_0 14 rfl rfl)
theorem dJ13_min_2_15 : decode cJ13_min_2 15 = .ok (.dconst 0, 1) := dk_14 (dk_at dksJ13_min_2_0 15 rfl rfl)
theorem dJ13_min_2_16 : decode cJ13_min_2 16 = .ok (.dcmp .l, 1) := dk_151 (dk_at dksJ13_min_2_0 16 rfl rfl)
theorem dJ13_min_2_17 : decode cJ13_min_2 17 = .ok (.ifCond .ne 16, 3) := dk_154 0 16 (dk_at dksJ13_min_2_0 17 rfl rfl)
theorem dJ13_min_2_20 : decode cJ13_min_2 20 = .ok (.dload_n 2, 1) := dk_40 (dk_at dksJ13_min_2_0 20 rfl rfl)
theorem dJ13_min_2_21 : decode cJ13_min_2 21 = .ok (.invokestatic 79, 3) := dk_184 0 79 (dk_at dksJ13_min_2_0 21 rfl rfl)
theorem dJ13_min_2_24 : decode cJ13_min_2 24 = .ok (.getstatic 174, 3) := dk_178 0 174 (dk_at dksJ13_min_2_1 0 rfl rfl)
theorem dJ13_min_2_27 : decode cJ13_min_2 27 = .ok (.lcmp, 1) := dk_148 (dk_at dksJ13_min_2_1 3 rfl rfl)
theorem dJ13_min_2_28 : decode cJ13_min_2 28 = .ok (.ifCond .ne 5, 3) := dk_154 0 5 (dk_at dksJ13_min_2_1 4 rfl rfl)
theorem dJ13_min_2_31 : decode cJ13_min_2 31 = .ok (.dload_n 2, 1) := dk_40 (dk_at dksJ13_min_2_1 7 rfl rfl)
theorem dJ13_min_2_32 : decode cJ13_min_2 32 = .ok (.dreturn, 1) := dk_175 (dk_at dksJ13_min_2_1 8 rfl rfl)
theorem dJ13_min_2_33 : decode cJ13_min_2 33 = .ok (.dload_n 0, 1) := dk_38 (dk_at dksJ13_min_2_1 9 rfl rfl)
theorem dJ13_min_2_34 : decode cJ13_min_2 34 = .ok (.dload_n 2, 1) := dk_40 (dk_at dksJ13_min_2_1 10 rfl rfl)
theorem dJ13_min_2_35 : decode cJ13_min_2 35 = .ok (.dcmp .g, 1) := dk_152 (dk_at dksJ13_min_2_1 11 rfl rfl)
theorem dJ13_min_2_36 : decode cJ13_min_2 36 = .ok (.ifCond .gt 7, 3) := dk_157 0 7 (dk_at dksJ13_min_2_1 12 rfl rfl)
theorem dJ13_min_2_39 : decode cJ13_min_2 39 = .ok (.dload_n 0, 1) := dk_38 (dk_at dksJ13_min_2_1 15 rfl rfl)
theorem dJ13_min_2_40 : decode cJ13_min_2 40 = .ok (.goto 4, 3) := dk_167 0 4 (dk_at dksJ13_min_2_1 16 rfl rfl)
theorem dJ13_min_2_43 : decode cJ13_min_2 43 = .ok (.dload_n 2, 1) := dk_40 (dk_at dksJ13_min_2_1 19 rfl rfl)
theorem dJ13_min_2_44 : decode cJ13_min_2 44 = .ok (.dreturn, 1) := dk_175 (dk_at dksJ13_min_2_1 20 rfl rfl)
abbrev cJ13_min_3 : ByteArray := prog_38_method_69_code
def yJ13_min_3 : MethodName := ⟨RJ13, "min", "(II)I"⟩
def dkwJ13_min_3_0 : List UInt8 := [26, 27, 163, 0, 7, 26, 167, 0, 4, 27, 172]
abbrev dktJ13_min_3_0 : List UInt8 := dkwJ13_min_3_0 ++ []
theorem dksJ13_min_3_0 : cJ13_min_3.data.toList.drop 0 = dktJ13_min_3_0 := by decide +kernel
theorem dJ13_min_3_0 : decode cJ13_min_3 0 = .ok (.iload_n 0, 1) := dk_26 (dk_at dksJ13_min_3_0 0 rfl rfl)
theorem dJ13_min_3_1 : decode cJ13_min_3 1 = .ok (.iload_n 1, 1) := dk_27 (dk_at dksJ13_min_3_0 1 rfl rfl)
theorem dJ13_min_3_2 : decode cJ13_min_3 2 = .ok (.if_icmp .gt 7, 3) := dk_163 0 7 (dk_at dksJ13_min_3_0 2 rfl rfl)
theorem dJ13_min_3_5 : decode cJ13_min_3 5 = .ok (.iload_n 0, 1) := dk_26 (dk_at dksJ13_min_3_0 5 rfl rfl)
theorem dJ13_min_3_6 : decode cJ13_min_3 6 = .ok (.goto 4, 3) := dk_167 0 4 (dk_at dksJ13_min_3_0 6 rfl rfl)
theorem dJ13_min_3_9 : decode cJ13_min_3 9 = .ok (.iload_n 1, 1) := dk_27 (dk_at dksJ13_min_3_0 9 rfl rfl)
theorem dJ13_min_3_10 : decode cJ13_min_3 10 = .ok (.ireturn, 1) := dk_172 (dk_at dksJ13_min_3_0 10 rfl rfl)
theorem q85 : (Jvm.Cond.initialized "java/lang/Math") ∈ lw_all := lw_g (lw_at lw_m1 21 rfl) rfl
theorem q306 : (Jvm.Cond.static ({ cls := "java/lang/Math", name := "max", desc := "(II)I" } : Jvm.MethodName)) ∈ lw_all := lw_g (lw_at lw_m2 2 rfl) rfl
theorem q307 : (Jvm.Cond.code ({ cls := "java/lang/Math", name := "max", desc := "(II)I" } : Jvm.MethodName) prog_38_method_65_code (2 : Nat) (Option.some Jvm.ClassFile.FieldType.int)) ∈ lw_all := lw_g (lw_at lw_m2 3 rfl) rfl
theorem q322 : (Jvm.Cond.static ({ cls := "java/lang/Math", name := "abs", desc := "(D)D" } : Jvm.MethodName)) ∈ lw_all := lw_g (lw_at lw_m2 18 rfl) rfl
theorem q323 : (Jvm.Cond.code ({ cls := "java/lang/Math", name := "abs", desc := "(D)D" } : Jvm.MethodName) prog_38_method_64_code (2 : Nat) (Option.some Jvm.ClassFile.FieldType.double)) ∈ lw_all := lw_g (lw_at lw_m2 19 rfl) rfl
theorem q324 : (Jvm.Cond.methodLink "java/lang/Math" (79 : Nat) ({ cls := "java/lang/Double", name := "doubleToRawLongBits", desc := "(D)J" } : Jvm.MethodName)) ∈ lw_all := lw_g (lw_at lw_m2 20 rfl) rfl
theorem q325 : (Jvm.Cond.constantLong "java/lang/Math" (135 : Nat) (9223372036854775807 : Int64)) ∈ lw_all := lw_g (lw_at lw_m2 21 rfl) rfl
theorem q326 : (Jvm.Cond.methodLink "java/lang/Math" (166 : Nat) ({ cls := "java/lang/Double", name := "longBitsToDouble", desc := "(J)D" } : Jvm.MethodName)) ∈ lw_all := lw_g (lw_at lw_m2 22 rfl) rfl
theorem q328 : (Jvm.Cond.static ({ cls := "java/lang/Math", name := "max", desc := "(DD)D" } : Jvm.MethodName)) ∈ lw_all := lw_g (lw_at lw_m2 24 rfl) rfl
theorem q329 : (Jvm.Cond.code ({ cls := "java/lang/Math", name := "max", desc := "(DD)D" } : Jvm.MethodName) prog_38_method_68_code (4 : Nat) (Option.some Jvm.ClassFile.FieldType.double)) ∈ lw_all := lw_g (lw_at lw_m2 25 rfl) rfl
theorem q330 : (Jvm.Cond.fieldLink "java/lang/Math" (174 : Nat) "java/lang/Math" "negativeZeroDoubleBits" "J") ∈ lw_all := lw_g (lw_at lw_m2 26 rfl) rfl
theorem q331 : (Jvm.Cond.laysStatic "java/lang/Math" "negativeZeroDoubleBits" "J") ∈ lw_tbl := lw_at lw_m2 27 rfl
theorem q680 : (Jvm.Cond.static ({ cls := "java/lang/Math", name := "copySign", desc := "(DD)D" } : Jvm.MethodName)) ∈ lw_all := lw_g (lw_at lw_m3 136 rfl) rfl
theorem q681 : (Jvm.Cond.code ({ cls := "java/lang/Math", name := "copySign", desc := "(DD)D" } : Jvm.MethodName) prog_38_method_89_code (4 : Nat) (Option.some Jvm.ClassFile.FieldType.double)) ∈ lw_all := lw_g (lw_at lw_m3 137 rfl) rfl
theorem q682 : (Jvm.Cond.constantLong "java/lang/Math" (128 : Nat) (-9223372036854775808 : Int64)) ∈ lw_all := lw_g (lw_at lw_m3 138 rfl) rfl
theorem q684 : (Jvm.Cond.static ({ cls := "java/lang/Math", name := "rint", desc := "(D)D" } : Jvm.MethodName)) ∈ lw_all := lw_g (lw_at lw_m3 140 rfl) rfl
theorem q685 : (Jvm.Cond.code ({ cls := "java/lang/Math", name := "rint", desc := "(D)D" } : Jvm.MethodName) prog_38_method_18_code (2 : Nat) (Option.some Jvm.ClassFile.FieldType.double)) ∈ lw_all := lw_g (lw_at lw_m3 141 rfl) rfl
theorem q686 : (Jvm.Cond.methodLink "java/lang/Math" (59 : Nat) ({ cls := "java/lang/StrictMath", name := "rint", desc := "(D)D" } : Jvm.MethodName)) ∈ lw_all := lw_g (lw_at lw_m3 142 rfl) rfl
theorem q792 : (Jvm.Cond.static ({ cls := "java/lang/Math", name := "floor", desc := "(D)D" } : Jvm.MethodName)) ∈ lw_all := lw_g (lw_at lw_m4 8 rfl) rfl
theorem q793 : (Jvm.Cond.code ({ cls := "java/lang/Math", name := "floor", desc := "(D)D" } : Jvm.MethodName) prog_38_method_17_code (2 : Nat) (Option.some Jvm.ClassFile.FieldType.double)) ∈ lw_all := lw_g (lw_at lw_m4 9 rfl) rfl
theorem q794 : (Jvm.Cond.methodLink "java/lang/Math" (56 : Nat) ({ cls := "java/lang/StrictMath", name := "floor", desc := "(D)D" } : Jvm.MethodName)) ∈ lw_all := lw_g (lw_at lw_m4 10 rfl) rfl
theorem q802 : (Jvm.Cond.static ({ cls := "java/lang/Math", name := "getExponent", desc := "(D)I" } : Jvm.MethodName)) ∈ lw_all := lw_g (lw_at lw_m4 18 rfl) rfl
theorem q803 : (Jvm.Cond.code ({ cls := "java/lang/Math", name := "getExponent", desc := "(D)I" } : Jvm.MethodName) prog_38_method_92_code (2 : Nat) (Option.some Jvm.ClassFile.FieldType.int)) ∈ lw_all := lw_g (lw_at lw_m4 19 rfl) rfl
theorem q804 : (Jvm.Cond.constantLong "java/lang/Math" (87 : Nat) (9218868437227405312 : Int64)) ∈ lw_all := lw_g (lw_at lw_m4 20 rfl) rfl
theorem q805 : (Jvm.Cond.constantLong "java/lang/Math" (322 : Nat) (1023 : Int64)) ∈ lw_all := lw_g (lw_at lw_m4 21 rfl) rfl
theorem q813 : (Jvm.Cond.static ({ cls := "java/lang/Math", name := "ceil", desc := "(D)D" } : Jvm.MethodName)) ∈ lw_all := lw_g (lw_at lw_m4 29 rfl) rfl
theorem q814 : (Jvm.Cond.code ({ cls := "java/lang/Math", name := "ceil", desc := "(D)D" } : Jvm.MethodName) prog_38_method_16_code (2 : Nat) (Option.some Jvm.ClassFile.FieldType.double)) ∈ lw_all := lw_g (lw_at lw_m4 30 rfl) rfl
theorem q815 : (Jvm.Cond.methodLink "java/lang/Math" (53 : Nat) ({ cls := "java/lang/StrictMath", name := "ceil", desc := "(D)D" } : Jvm.MethodName)) ∈ lw_all := lw_g (lw_at lw_m4 31 rfl) rfl
theorem q821 : (Jvm.Cond.static ({ cls := "java/lang/Math", name := "abs", desc := "(F)F" } : Jvm.MethodName)) ∈ lw_all := lw_g (lw_at lw_m4 37 rfl) rfl
theorem q822 : (Jvm.Cond.code ({ cls := "java/lang/Math", name := "abs", desc := "(F)F" } : Jvm.MethodName) prog_38_method_63_code (1 : Nat) (Option.some Jvm.ClassFile.FieldType.float)) ∈ lw_all := lw_g (lw_at lw_m4 38 rfl) rfl
theorem q823 : (Jvm.Cond.methodLink "java/lang/Math" (68 : Nat) ({ cls := "java/lang/Float", name := "floatToRawIntBits", desc := "(F)I" } : Jvm.MethodName)) ∈ lw_all := lw_g (lw_at lw_m4 39 rfl) rfl
theorem q824 : (Jvm.Cond.constant "java/lang/Math" (134 : Nat) (2147483647 : Int32)) ∈ lw_all := lw_g (lw_at lw_m4 40 rfl) rfl
theorem q825 : (Jvm.Cond.methodLink "java/lang/Math" (162 : Nat) ({ cls := "java/lang/Float", name := "intBitsToFloat", desc := "(I)F" } : Jvm.MethodName)) ∈ lw_all := lw_g (lw_at lw_m4 41 rfl) rfl
theorem q827 : (Jvm.Cond.static ({ cls := "java/lang/Math", name := "signum", desc := "(F)F" } : Jvm.MethodName)) ∈ lw_all := lw_g (lw_at lw_m4 43 rfl) rfl
theorem q828 : (Jvm.Cond.code ({ cls := "java/lang/Math", name := "signum", desc := "(F)F" } : Jvm.MethodName) prog_38_method_82_code (1 : Nat) (Option.some Jvm.ClassFile.FieldType.float)) ∈ lw_all := lw_g (lw_at lw_m4 44 rfl) rfl
theorem q829 : (Jvm.Cond.methodLink "java/lang/Math" (224 : Nat) ({ cls := "java/lang/Float", name := "isNaN", desc := "(F)Z" } : Jvm.MethodName)) ∈ lw_all := lw_g (lw_at lw_m4 45 rfl) rfl
theorem q830 : (Jvm.Cond.methodLink "java/lang/Math" (302 : Nat) ({ cls := "java/lang/Math", name := "copySign", desc := "(FF)F" } : Jvm.MethodName)) ∈ lw_all := lw_g (lw_at lw_m4 46 rfl) rfl
theorem q831 : (Jvm.Cond.static ({ cls := "java/lang/Math", name := "copySign", desc := "(FF)F" } : Jvm.MethodName)) ∈ lw_all := lw_g (lw_at lw_m4 47 rfl) rfl
theorem q832 : (Jvm.Cond.code ({ cls := "java/lang/Math", name := "copySign", desc := "(FF)F" } : Jvm.MethodName) prog_38_method_90_code (2 : Nat) (Option.some Jvm.ClassFile.FieldType.float)) ∈ lw_all := lw_g (lw_at lw_m4 48 rfl) rfl
theorem q833 : (Jvm.Cond.constant "java/lang/Math" (137 : Nat) (-2147483648 : Int32)) ∈ lw_all := lw_g (lw_at lw_m4 49 rfl) rfl
theorem q836 : (Jvm.Cond.static ({ cls := "java/lang/Math", name := "min", desc := "(FF)F" } : Jvm.MethodName)) ∈ lw_all := lw_g (lw_at lw_m4 52 rfl) rfl
theorem q837 : (Jvm.Cond.code ({ cls := "java/lang/Math", name := "min", desc := "(FF)F" } : Jvm.MethodName) prog_38_method_71_code (2 : Nat) (Option.some Jvm.ClassFile.FieldType.float)) ∈ lw_all := lw_g (lw_at lw_m4 53 rfl) rfl
theorem q838 : (Jvm.Cond.fieldLink "java/lang/Math" (170 : Nat) "java/lang/Math" "negativeZeroFloatBits" "J") ∈ lw_all := lw_g (lw_at lw_m4 54 rfl) rfl
theorem q839 : (Jvm.Cond.laysStatic "java/lang/Math" "negativeZeroFloatBits" "J") ∈ lw_tbl := lw_at lw_m4 55 rfl
theorem q841 : (Jvm.Cond.static ({ cls := "java/lang/Math", name := "max", desc := "(FF)F" } : Jvm.MethodName)) ∈ lw_all := lw_g (lw_at lw_m4 57 rfl) rfl
theorem q842 : (Jvm.Cond.code ({ cls := "java/lang/Math", name := "max", desc := "(FF)F" } : Jvm.MethodName) prog_38_method_67_code (2 : Nat) (Option.some Jvm.ClassFile.FieldType.float)) ∈ lw_all := lw_g (lw_at lw_m4 58 rfl) rfl
theorem q851 : (Jvm.Cond.static ({ cls := "java/lang/Math", name := "signum", desc := "(D)D" } : Jvm.MethodName)) ∈ lw_all := lw_g (lw_at lw_m4 67 rfl) rfl
theorem q852 : (Jvm.Cond.code ({ cls := "java/lang/Math", name := "signum", desc := "(D)D" } : Jvm.MethodName) prog_38_method_81_code (2 : Nat) (Option.some Jvm.ClassFile.FieldType.double)) ∈ lw_all := lw_g (lw_at lw_m4 68 rfl) rfl
theorem q853 : (Jvm.Cond.methodLink "java/lang/Math" (205 : Nat) ({ cls := "java/lang/Double", name := "isNaN", desc := "(D)Z" } : Jvm.MethodName)) ∈ lw_all := lw_g (lw_at lw_m4 69 rfl) rfl
theorem q854 : (Jvm.Cond.methodLink "java/lang/Math" (299 : Nat) ({ cls := "java/lang/Math", name := "copySign", desc := "(DD)D" } : Jvm.MethodName)) ∈ lw_all := lw_g (lw_at lw_m4 70 rfl) rfl
theorem q857 : (Jvm.Cond.static ({ cls := "java/lang/Math", name := "min", desc := "(DD)D" } : Jvm.MethodName)) ∈ lw_all := lw_g (lw_at lw_m4 73 rfl) rfl
theorem q858 : (Jvm.Cond.code ({ cls := "java/lang/Math", name := "min", desc := "(DD)D" } : Jvm.MethodName) prog_38_method_72_code (4 : Nat) (Option.some Jvm.ClassFile.FieldType.double)) ∈ lw_all := lw_g (lw_at lw_m4 74 rfl) rfl
theorem q1138 : (Jvm.Cond.static ({ cls := "java/lang/Math", name := "min", desc := "(II)I" } : Jvm.MethodName)) ∈ lw_all := lw_g (lw_at lw_m5 114 rfl) rfl
theorem q1139 : (Jvm.Cond.code ({ cls := "java/lang/Math", name := "min", desc := "(II)I" } : Jvm.MethodName) prog_38_method_69_code (2 : Nat) (Option.some Jvm.ClassFile.FieldType.int)) ∈ lw_all := lw_g (lw_at lw_m5 115 rfl) rfl

/-! java/lang/StrictMath -/
set_option maxRecDepth 100000
def RJ14 : String := "java/lang/StrictMath"
abbrev cJ14_rint : ByteArray := prog_43_method_19_code
def yJ14_rint : MethodName := ⟨RJ14, "rint", "(D)D"⟩
def dkwJ14_rint_1 : List UInt8 := [99, 40, 103, 71, 24, 4, 38, 107, 175]
abbrev dktJ14_rint_1 : List UInt8 := dkwJ14_rint_1 ++ []
def dkwJ14_rint_0 : List UInt8 := [20, 0, 93, 73, 15, 38, 184, 0, 95, 57, 4, 38, 184, 0, 98, 71, 38, 40, 152, 156, 0, 9, 40, 38]
abbrev dktJ14_rint_0 : List UInt8 := dkwJ14_rint_0 ++ dktJ14_rint_1
theorem dksJ14_rint_0 : cJ14_rint.data.toList.drop 0 = dktJ14_rint_0 := by decide +kernel
theorem dksJ14_rint_1 : cJ14_rint.data.toList.drop 24 = dktJ14_rint_1 := dk_seg dksJ14_rint_0 24 rfl rfl
theorem dJ14_rint_0 : decode cJ14_rint 0 = .ok (.ldc2_w 93, 3) := dk_20 0 93 (dk_at dksJ14_rint_0 0 rfl rfl)
theorem dJ14_rint_3 : decode cJ14_rint 3 = .ok (.dstore_n 2, 1) := dk_73 (dk_at dksJ14_rint_0 3 rfl rfl)
theorem dJ14_rint_4 : decode cJ14_rint 4 = .ok (.dconst 1, 1) := dk_15 (dk_at dksJ14_rint_0 4 rfl rfl)
theorem dJ14_rint_5 : decode cJ14_rint 5 = .ok (.dload_n 0, 1) := dk_38 (dk_at dksJ14_rint_0 5 rfl rfl)
theorem dJ14_rint_6 : decode cJ14_rint 6 = .ok (.invokestatic 95, 3) := dk_184 0 95 (dk_at dksJ14_rint_0 6 rfl rfl)
theorem dJ14_rint_9 : decode cJ14_rint 9 = .ok (.dstore 4, 2) := dk_57 4 (dk_at dksJ14_rint_0 9 rfl rfl)
theorem dJ14_rint_11 : decode cJ14_rint 11 = .ok (.dload_n 0, 1) := dk_38 (dk_at dksJ14_rint_0 11 rfl rfl)
theorem dJ14_rint_12 : decode cJ14_rint 12 = .ok (.invokestatic 98, 3) := dk_184 0 98 (dk_at dksJ14_rint_0 12 rfl rfl)
theorem dJ14_rint_15 : decode cJ14_rint 15 = .ok (.dstore_n 0, 1) := dk_71 (dk_at dksJ14_rint_0 15 rfl rfl)
theorem dJ14_rint_16 : decode cJ14_rint 16 = .ok (.dload_n 0, 1) := dk_38 (dk_at dksJ14_rint_0 16 rfl rfl)
theorem dJ14_rint_17 : decode cJ14_rint 17 = .ok (.dload_n 2, 1) := dk_40 (dk_at dksJ14_rint_0 17 rfl rfl)
theorem dJ14_rint_18 : decode cJ14_rint 18 = .ok (.dcmp .g, 1) := dk_152 (dk_at dksJ14_rint_0 18 rfl rfl)
theorem dJ14_rint_19 : decode cJ14_rint 19 = .ok (.ifCond .ge 9, 3) := dk_156 0 9 (dk_at dksJ14_rint_0 19 rfl rfl)
theorem dJ14_rint_22 : decode cJ14_rint 22 = .ok (.dload_n 2, 1) := dk_40 (dk_at dksJ14_rint_0 22 rfl rfl)
theorem dJ14_rint_23 : decode cJ14_rint 23 = .ok (.dload_n 0, 1) := dk_38 (dk_at dksJ14_rint_0 23 rfl rfl)
theorem dJ14_rint_24 : decode cJ14_rint 24 = .ok (.dadd, 1) := dk_99 (dk_at dksJ14_rint_1 0 rfl rfl)
theorem dJ14_rint_25 : decode cJ14_rint 25 = .ok (.dload_n 2, 1) := dk_40 (dk_at dksJ14_rint_1 1 rfl rfl)
theorem dJ14_rint_26 : decode cJ14_rint 26 = .ok (.dsub, 1) := dk_103 (dk_at dksJ14_rint_1 2 rfl rfl)
theorem dJ14_rint_27 : decode cJ14_rint 27 = .ok (.dstore_n 0, 1) := dk_71 (dk_at dksJ14_rint_1 3 rfl rfl)
theorem dJ14_rint_28 : decode cJ14_rint 28 = .ok (.dload 4, 2) := dk_24 4 (dk_at dksJ14_rint_1 4 rfl rfl)
theorem dJ14_rint_30 : decode cJ14_rint 30 = .ok (.dload_n 0, 1) := dk_38 (dk_at dksJ14_rint_1 6 rfl rfl)
theorem dJ14_rint_31 : decode cJ14_rint 31 = .ok (.dmul, 1) := dk_107 (dk_at dksJ14_rint_1 7 rfl rfl)
theorem dJ14_rint_32 : decode cJ14_rint 32 = .ok (.dreturn, 1) := dk_175 (dk_at dksJ14_rint_1 8 rfl rfl)
abbrev cJ14_floor : ByteArray := prog_43_method_17_code
def yJ14_floor : MethodName := ⟨RJ14, "floor", "(D)D"⟩
def dkwJ14_floor_0 : List UInt8 := [38, 20, 0, 64, 14, 20, 0, 64, 184, 0, 60, 175]
abbrev dktJ14_floor_0 : List UInt8 := dkwJ14_floor_0 ++ []
theorem dksJ14_floor_0 : cJ14_floor.data.toList.drop 0 = dktJ14_floor_0 := by decide +kernel
theorem dJ14_floor_0 : decode cJ14_floor 0 = .ok (.dload_n 0, 1) := dk_38 (dk_at dksJ14_floor_0 0 rfl rfl)
theorem dJ14_floor_1 : decode cJ14_floor 1 = .ok (.ldc2_w 64, 3) := dk_20 0 64 (dk_at dksJ14_floor_0 1 rfl rfl)
theorem dJ14_floor_4 : decode cJ14_floor 4 = .ok (.dconst 0, 1) := dk_14 (dk_at dksJ14_floor_0 4 rfl rfl)
theorem dJ14_floor_5 : decode cJ14_floor 5 = .ok (.ldc2_w 64, 3) := dk_20 0 64 (dk_at dksJ14_floor_0 5 rfl rfl)
theorem dJ14_floor_8 : decode cJ14_floor 8 = .ok (.invokestatic 60, 3) := dk_184 0 60 (dk_at dksJ14_floor_0 8 rfl rfl)
theorem dJ14_floor_11 : decode cJ14_floor 11 = .ok (.dreturn, 1) := dk_175 (dk_at dksJ14_floor_0 11 rfl rfl)
abbrev cJ14_floorOrCeil : ByteArray := prog_43_method_18_code
def yJ14_floorOrCeil : MethodName := ⟨RJ14, "floorOrCeil", "(DDDD)D"⟩
def dkwJ14_floorOrCeil_5 : List UInt8 := [24, 13, 24, 6, 99, 57, 13, 24, 13, 175]
abbrev dktJ14_floorOrCeil_5 : List UInt8 := dkwJ14_floorOrCeil_5 ++ []
def dkwJ14_floorOrCeil_4 : List UInt8 := [175, 22, 9, 22, 11, 20, 0, 87, 131, 127, 184, 0, 89, 57, 13, 24, 6, 38, 107, 14, 151, 158, 0, 10]
abbrev dktJ14_floorOrCeil_4 : List UInt8 := dkwJ14_floorOrCeil_4 ++ dktJ14_floorOrCeil_5
def dkwJ14_floorOrCeil_3 : List UInt8 := [184, 0, 77, 55, 9, 20, 0, 85, 21, 8, 123, 55, 11, 22, 11, 22, 9, 127, 9, 148, 154, 0, 5, 38]
abbrev dktJ14_floorOrCeil_3 : List UInt8 := dkwJ14_floorOrCeil_3 ++ dktJ14_floorOrCeil_4
def dkwJ14_floorOrCeil_2 : List UInt8 := [154, 0, 23, 21, 8, 155, 0, 10, 21, 8, 16, 51, 164, 0, 11, 187, 0, 74, 89, 183, 0, 76, 191, 38]
abbrev dktJ14_floorOrCeil_2 : List UInt8 := dkwJ14_floorOrCeil_2 ++ dktJ14_floorOrCeil_3
def dkwJ14_floorOrCeil_1 : List UInt8 := [156, 0, 7, 40, 167, 0, 5, 24, 4, 175, 21, 8, 16, 52, 161, 0, 5, 38, 175, 178, 0, 70]
abbrev dktJ14_floorOrCeil_1 : List UInt8 := dkwJ14_floorOrCeil_1 ++ dktJ14_floorOrCeil_2
def dkwJ14_floorOrCeil_0 : List UInt8 := [38, 184, 0, 66, 54, 8, 21, 8, 156, 0, 26, 38, 14, 151, 154, 0, 7, 38, 167, 0, 15, 38, 14, 152]
abbrev dktJ14_floorOrCeil_0 : List UInt8 := dkwJ14_floorOrCeil_0 ++ dktJ14_floorOrCeil_1
theorem dksJ14_floorOrCeil_0 : cJ14_floorOrCeil.data.toList.drop 0 = dktJ14_floorOrCeil_0 := by decide +kernel
theorem dksJ14_floorOrCeil_1 : cJ14_floorOrCeil.data.toList.drop 24 = dktJ14_floorOrCeil_1 := dk_seg dksJ14_floorOrCeil_0 24 rfl rfl
theorem dksJ14_floorOrCeil_2 : cJ14_floorOrCeil.data.toList.drop 46 = dktJ14_floorOrCeil_2 := dk_seg dksJ14_floorOrCeil_1 22 rfl rfl
theorem dksJ14_floorOrCeil_3 : cJ14_floorOrCeil.data.toList.drop 70 = dktJ14_floorOrCeil_3 := dk_seg dksJ14_floorOrCeil_2 24 rfl rfl
theorem dksJ14_floorOrCeil_4 : cJ14_floorOrCeil.data.toList.drop 94 = dktJ14_floorOrCeil_4 := dk_seg dksJ14_floorOrCeil_3 24 rfl rfl
theorem dksJ14_floorOrCeil_5 : cJ14_floorOrCeil.data.toList.drop 118 = dktJ14_floorOrCeil_5 := dk_seg dksJ14_floorOrCeil_4 24 rfl rfl
theorem dJ14_floorOrCeil_0 : decode cJ14_floorOrCeil 0 = .ok (.dload_n 0, 1) := dk_38 (dk_at dksJ14_floorOrCeil_0 0 rfl rfl)
theorem dJ14_floorOrCeil_1 : decode cJ14_floorOrCeil 1 = .ok (.invokestatic 66, 3) := dk_184 0 66 (dk_at dksJ14_floorOrCeil_0 1 rfl rfl)
theorem dJ14_floorOrCeil_4 : decode cJ14_floorOrCeil 4 = .ok (.istore 8, 2) := dk_54 8 (dk_at dksJ14_floorOrCeil_0 4 rfl rfl)
theorem dJ14_floorOrCeil_6 : decode cJ14_floorOrCeil 6 = .ok (.iload 8, 2) := dk_21 8 (dk_at dksJ14_floorOrCeil_0 6 rfl rfl)
theorem dJ14_floorOrCeil_8 : decode cJ14_floorOrCeil 8 = .ok (.ifCond .ge 26, 3) := dk_156 0 26 (dk_at dksJ14_floorOrCeil_0 8 rfl rfl)
theorem dJ14_floorOrCeil_11 : decode cJ14_floorOrCeil 11 = .ok (.dload_n 0, 1) := dk_38 (dk_at dksJ14_floorOrCeil_0 11 rfl rfl)
theorem dJ14_floorOrCeil_12 : decode cJ14_floorOrCeil 12 = .ok (.dconst 0, 1) := dk_14 (dk_at dksJ14_floorOrCeil_0 12 rfl rfl)
theorem dJ14_floorOrCeil_13 : decode cJ14_floorOrCeil 13 = .ok (.dcmp .l, 1) := dk_151 (dk_at dksJ14_floorOrCeil_0 13 rfl rfl)
theorem dJ14_floorOrCeil_14 : decode cJ14_floorOrCeil 14 = .ok (.ifCond .ne 7, 3) := dk_154 0 7 (dk_at dksJ14_floorOrCeil_0 14 rfl rfl)
theorem dJ14_floorOrCeil_17 : decode cJ14_floorOrCeil 17 = .ok (.dload_n 0, 1) := dk_38 (dk_at dksJ14_floorOrCeil_0 17 rfl rfl)
theorem dJ14_floorOrCeil_18 : decode cJ14_floorOrCeil 18 = .ok (.goto 15, 3) := dk_167 0 15 (dk_at dksJ14_floorOrCeil_0 18 rfl rfl)
theorem dJ14_floorOrCeil_21 : decode cJ14_floorOrCeil 21 = .ok (.dload_n 0, 1) := dk_38 (dk_at dksJ14_floorOrCeil_0 21 rfl rfl)
theorem dJ14_floorOrCeil_22 : decode cJ14_floorOrCeil 22 = .ok (.dconst 0, 1) := dk_14 (dk_at dksJ14_floorOrCeil_0 22 rfl rfl)
theorem dJ14_floorOrCeil_23 : decode cJ14_floorOrCeil 23 = .ok (.dcmp .g, 1) := dk_152 (dk_at dksJ14_floorOrCeil_0 23 rfl rfl)
theorem dJ14_floorOrCeil_24 : decode cJ14_floorOrCeil 24 = .ok (.ifCond .ge 7, 3) := dk_156 0 7 (dk_at dksJ14_floorOrCeil_1 0 rfl rfl)
theorem dJ14_floorOrCeil_27 : decode cJ14_floorOrCeil 27 = .ok (.dload_n 2, 1) := dk_40 (dk_at dksJ14_floorOrCeil_1 3 rfl rfl)
theorem dJ14_floorOrCeil_28 : decode cJ14_floorOrCeil 28 = .ok (.goto 5, 3) := dk_167 0 5 (dk_at dksJ14_floorOrCeil_1 4 rfl rfl)
theorem dJ14_floorOrCeil_31 : decode cJ14_floorOrCeil 31 = .ok (.dload 4, 2) := dk_24 4 (dk_at dksJ14_floorOrCeil_1 7 rfl rfl)
theorem dJ14_floorOrCeil_33 : decode cJ14_floorOrCeil 33 = .ok (.dreturn, 1) := dk_175 (dk_at dksJ14_floorOrCeil_1 9 rfl rfl)
theorem dJ14_floorOrCeil_34 : decode cJ14_floorOrCeil 34 = .ok (.iload 8, 2) := dk_21 8 (dk_at dksJ14_floorOrCeil_1 10 rfl rfl)
theorem dJ14_floorOrCeil_36 : decode cJ14_floorOrCeil 36 = .ok (.bipush 52, 2) := dk_16 52 (dk_at dksJ14_floorOrCeil_1 12 rfl rfl)
theorem dJ14_floorOrCeil_38 : decode cJ14_floorOrCeil 38 = .ok (.if_icmp .lt 5, 3) := dk_161 0 5 (dk_at dksJ14_floorOrCeil_1 14 rfl rfl)
theorem dJ14_floorOrCeil_41 : decode cJ14_floorOrCeil 41 = .ok (.dload_n 0, 1) := dk_38 (dk_at dksJ14_floorOrCeil_1 17 rfl rfl)
theorem dJ14_floorOrCeil_42 : decode cJ14_floorOrCeil 42 = .ok (.dreturn, 1) := dk_175 (dk_at dksJ14_floorOrCeil_1 18 rfl rfl)
theorem dJ14_floorOrCeil_43 : decode cJ14_floorOrCeil 43 = .ok (.getstatic 70, 3) := dk_178 0 70 (dk_at dksJ14_floorOrCeil_1 19 rfl rfl)
theorem dJ14_floorOrCeil_46 : decode cJ14_floorOrCeil 46 = .ok (.ifCond .ne 23, 3) := dk_154 0 23 (dk_at dksJ14_floorOrCeil_2 0 rfl rfl)
theorem dJ14_floorOrCeil_49 : decode cJ14_floorOrCeil 49 = .ok (.iload 8, 2) := dk_21 8 (dk_at dksJ14_floorOrCeil_2 3 rfl rfl)
theorem dJ14_floorOrCeil_51 : decode cJ14_floorOrCeil 51 = .ok (.ifCond .lt 10, 3) := dk_155 0 10 (dk_at dksJ14_floorOrCeil_2 5 rfl rfl)
theorem dJ14_floorOrCeil_54 : decode cJ14_floorOrCeil 54 = .ok (.iload 8, 2) := dk_21 8 (dk_at dksJ14_floorOrCeil_2 8 rfl rfl)
theorem dJ14_floorOrCeil_56 : decode cJ14_floorOrCeil 56 = .ok (.bipush 51, 2) := dk_16 51 (dk_at dksJ14_floorOrCeil_2 10 rfl rfl)
theorem dJ14_floorOrCeil_58 : decode cJ14_floorOrCeil 58 = .ok (.if_icmp .le 11, 3) := dk_164 0 11 (dk_at dksJ14_floorOrCeil_2 12 rfl rfl)
theorem dJ14_floorOrCeil_61 : decode cJ14_floorOrCeil 61 = .ok (.new 74, 3) := dk_187 0 74 (dk_at dksJ14_floorOrCeil_2 15 rfl rfl)
theorem dJ14_floorOrCeil_64 : decode cJ14_floorOrCeil 64 = .ok (.dup, 1) := dk_89 (dk_at dksJ14_floorOrCeil_2 18 rfl rfl)
theorem dJ14_floorOrCeil_65 : decode cJ14_floorOrCeil 65 = .ok (.invokespecial 76, 3) := dk_183 0 76 (dk_at dksJ14_floorOrCeil_2 19 rfl rfl)
theorem dJ14_floorOrCeil_68 : decode cJ14_floorOrCeil 68 = .ok (.athrow, 1) := dk_191 (dk_at dksJ14_floorOrCeil_2 22 rfl rfl)
theorem dJ14_floorOrCeil_69 : decode cJ14_floorOrCeil 69 = .ok (.dload_n 0, 1) := dk_38 (dk_at dksJ14_floorOrCeil_2 23 rfl rfl)
theorem dJ14_floorOrCeil_70 : decode cJ14_floorOrCeil 70 = .ok (.invokestatic 77, 3) := dk_184 0 77 (dk_at dksJ14_floorOrCeil_3 0 rfl rfl)
theorem dJ14_floorOrCeil_73 : decode cJ14_floorOrCeil 73 = .ok (.lstore 9, 2) := dk_55 9 (dk_at dksJ14_floorOrCeil_3 3 rfl rfl)
theorem dJ14_floorOrCeil_75 : decode cJ14_floorOrCeil 75 = .ok (.ldc2_w 85, 3) := dk_20 0 85 (dk_at dksJ14_floorOrCeil_3 5 rfl rfl)
theorem dJ14_floorOrCeil_78 : decode cJ14_floorOrCeil 78 = .ok (.iload 8, 2) := dk_21 8 (dk_at dksJ14_floorOrCeil_3 8 rfl rfl)
theorem dJ14_floorOrCeil_80 : decode cJ14_floorOrCeil 80 = .ok (.lshr, 1) := dk_123 (dk_at dksJ14_floorOrCeil_3 10 rfl rfl)
theorem dJ14_floorOrCeil_81 : decode cJ14_floorOrCeil 81 = .ok (.lstore 11, 2) := dk_55 11 (dk_at dksJ14_floorOrCeil_3 11 rfl rfl)
theorem dJ14_floorOrCeil_83 : decode cJ14_floorOrCeil 83 = .ok (.lload 11, 2) := dk_22 11 (dk_at dksJ14_floorOrCeil_3 13 rfl rfl)
theorem dJ14_floorOrCeil_85 : decode cJ14_floorOrCeil 85 = .ok (.lload 9, 2) := dk_22 9 (dk_at dksJ14_floorOrCeil_3 15 rfl rfl)
theorem dJ14_floorOrCeil_87 : decode cJ14_floorOrCeil 87 = .ok (.land, 1) := dk_127 (dk_at dksJ14_floorOrCeil_3 17 rfl rfl)
theorem dJ14_floorOrCeil_88 : decode cJ14_floorOrCeil 88 = .ok (.lconst 0, 1) := dk_9 (dk_at dksJ14_floorOrCeil_3 18 rfl rfl)
theorem dJ14_floorOrCeil_89 : decode cJ14_floorOrCeil 89 = .ok (.lcmp, 1) := dk_148 (dk_at dksJ14_floorOrCeil_3 19 rfl rfl)
theorem dJ14_floorOrCeil_90 : decode cJ14_floorOrCeil 90 = .ok (.ifCond .ne 5, 3) := dk_154 0 5 (dk_at dksJ14_floorOrCeil_3 20 rfl rfl)
theorem dJ14_floorOrCeil_93 : decode cJ14_floorOrCeil 93 = .ok (.dload_n 0, 1) := dk_38 (dk_at dksJ14_floorOrCeil_3 23 rfl rfl)
theorem dJ14_floorOrCeil_94 : decode cJ14_floorOrCeil 94 = .ok (.dreturn, 1) := dk_175 (dk_at dksJ14_floorOrCeil_4 0 rfl rfl)
theorem dJ14_floorOrCeil_95 : decode cJ14_floorOrCeil 95 = .ok (.lload 9, 2) := dk_22 9 (dk_at dksJ14_floorOrCeil_4 1 rfl rfl)
theorem dJ14_floorOrCeil_97 : decode cJ14_floorOrCeil 97 = .ok (.lload 11, 2) := dk_22 11 (dk_at dksJ14_floorOrCeil_4 3 rfl rfl)
theorem dJ14_floorOrCeil_99 : decode cJ14_floorOrCeil 99 = .ok (.ldc2_w 87, 3) := dk_20 0 87 (dk_at dksJ14_floorOrCeil_4 5 rfl rfl)
theorem dJ14_floorOrCeil_102 : decode cJ14_floorOrCeil 102 = .ok (.lxor, 1) := dk_131 (dk_at dksJ14_floorOrCeil_4 8 rfl rfl)
theorem dJ14_floorOrCeil_103 : decode cJ14_floorOrCeil 103 = .ok (.land, 1) := dk_127 (dk_at dksJ14_floorOrCeil_4 9 rfl rfl)
theorem dJ14_floorOrCeil_104 : decode cJ14_floorOrCeil 104 = .ok (.invokestatic 89, 3) := dk_184 0 89 (dk_at dksJ14_floorOrCeil_4 10 rfl rfl)
theorem dJ14_floorOrCeil_107 : decode cJ14_floorOrCeil 107 = .ok (.dstore 13, 2) := dk_57 13 (dk_at dksJ14_floorOrCeil_4 13 rfl rfl)
theorem dJ14_floorOrCeil_109 : decode cJ14_floorOrCeil 109 = .ok (.dload 6, 2) := dk_24 6 (dk_at dksJ14_floorOrCeil_4 15 rfl rfl)
theorem dJ14_floorOrCeil_111 : decode cJ14_floorOrCeil 111 = .ok (.dload_n 0, 1) := dk_38 (dk_at dksJ14_floorOrCeil_4 17 rfl rfl)
theorem dJ14_floorOrCeil_112 : decode cJ14_floorOrCeil 112 = .ok (.dmul, 1) := dk_107 (dk_at dksJ14_floorOrCeil_4 18 rfl rfl)
theorem dJ14_floorOrCeil_113 : decode cJ14_floorOrCeil 113 = .ok (.dconst 0, 1) := dk_14 (dk_at dksJ14_floorOrCeil_4 19 rfl rfl)
theorem dJ14_floorOrCeil_114 : decode cJ14_floorOrCeil 114 = .ok (.dcmp .l, 1) := dk_151 (dk_at dksJ14_floorOrCeil_4 20 rfl rfl)
theorem dJ14_floorOrCeil_115 : decode cJ14_floorOrCeil 115 = .ok (.ifCond .le 10, 3) := dk_158 0 10 (dk_at dksJ14_floorOrCeil_4 21 rfl rfl)
theorem dJ14_floorOrCeil_118 : decode cJ14_floorOrCeil 118 = .ok (.dload 13, 2) := dk_24 13 (dk_at dksJ14_floorOrCeil_5 0 rfl rfl)
theorem dJ14_floorOrCeil_120 : decode cJ14_floorOrCeil 120 = .ok (.dload 6, 2) := dk_24 6 (dk_at dksJ14_floorOrCeil_5 2 rfl rfl)
theorem dJ14_floorOrCeil_122 : decode cJ14_floorOrCeil 122 = .ok (.dadd, 1) := dk_99 (dk_at dksJ14_floorOrCeil_5 4 rfl rfl)
theorem dJ14_floorOrCeil_123 : decode cJ14_floorOrCeil 123 = .ok (.dstore 13, 2) := dk_57 13 (dk_at dksJ14_floorOrCeil_5 5 rfl rfl)
theorem dJ14_floorOrCeil_125 : decode cJ14_floorOrCeil 125 = .ok (.dload 13, 2) := dk_24 13 (dk_at dksJ14_floorOrCeil_5 7 rfl rfl)
theorem dJ14_floorOrCeil_127 : decode cJ14_floorOrCeil 127 = .ok (.dreturn, 1) := dk_175 (dk_at dksJ14_floorOrCeil_5 9 rfl rfl)
abbrev cJ14_ceil : ByteArray := prog_43_method_16_code
def yJ14_ceil : MethodName := ⟨RJ14, "ceil", "(D)D"⟩
def dkwJ14_ceil_0 : List UInt8 := [38, 20, 0, 58, 15, 15, 184, 0, 60, 175]
abbrev dktJ14_ceil_0 : List UInt8 := dkwJ14_ceil_0 ++ []
theorem dksJ14_ceil_0 : cJ14_ceil.data.toList.drop 0 = dktJ14_ceil_0 := by decide +kernel
theorem dJ14_ceil_0 : decode cJ14_ceil 0 = .ok (.dload_n 0, 1) := dk_38 (dk_at dksJ14_ceil_0 0 rfl rfl)
theorem dJ14_ceil_1 : decode cJ14_ceil 1 = .ok (.ldc2_w 58, 3) := dk_20 0 58 (dk_at dksJ14_ceil_0 1 rfl rfl)
theorem dJ14_ceil_4 : decode cJ14_ceil 4 = .ok (.dconst 1, 1) := dk_15 (dk_at dksJ14_ceil_0 4 rfl rfl)
theorem dJ14_ceil_5 : decode cJ14_ceil 5 = .ok (.dconst 1, 1) := dk_15 (dk_at dksJ14_ceil_0 5 rfl rfl)
theorem dJ14_ceil_6 : decode cJ14_ceil 6 = .ok (.invokestatic 60, 3) := dk_184 0 60 (dk_at dksJ14_ceil_0 6 rfl rfl)
theorem dJ14_ceil_9 : decode cJ14_ceil 9 = .ok (.dreturn, 1) := dk_175 (dk_at dksJ14_ceil_0 9 rfl rfl)
theorem q86 : (Jvm.Cond.initialized "java/lang/StrictMath") ∈ lw_all := lw_g (lw_at lw_m1 22 rfl) rfl
theorem q687 : (Jvm.Cond.static ({ cls := "java/lang/StrictMath", name := "rint", desc := "(D)D" } : Jvm.MethodName)) ∈ lw_all := lw_g (lw_at lw_m3 143 rfl) rfl
theorem q688 : (Jvm.Cond.code ({ cls := "java/lang/StrictMath", name := "rint", desc := "(D)D" } : Jvm.MethodName) prog_43_method_19_code (6 : Nat) (Option.some Jvm.ClassFile.FieldType.double)) ∈ lw_all := lw_g (lw_at lw_m3 144 rfl) rfl
theorem q689 : (Jvm.Cond.constantDouble "java/lang/StrictMath" (93 : Nat) (4841369599423283200 : UInt64)) ∈ lw_all := lw_g (lw_at lw_m3 145 rfl) rfl
theorem q690 : (Jvm.Cond.methodLink "java/lang/StrictMath" (95 : Nat) ({ cls := "java/lang/Math", name := "copySign", desc := "(DD)D" } : Jvm.MethodName)) ∈ lw_all := lw_g (lw_at lw_m3 146 rfl) rfl
theorem q691 : (Jvm.Cond.methodLink "java/lang/StrictMath" (98 : Nat) ({ cls := "java/lang/Math", name := "abs", desc := "(D)D" } : Jvm.MethodName)) ∈ lw_all := lw_g (lw_at lw_m3 147 rfl) rfl
theorem q795 : (Jvm.Cond.static ({ cls := "java/lang/StrictMath", name := "floor", desc := "(D)D" } : Jvm.MethodName)) ∈ lw_all := lw_g (lw_at lw_m4 11 rfl) rfl
theorem q796 : (Jvm.Cond.code ({ cls := "java/lang/StrictMath", name := "floor", desc := "(D)D" } : Jvm.MethodName) prog_43_method_17_code (2 : Nat) (Option.some Jvm.ClassFile.FieldType.double)) ∈ lw_all := lw_g (lw_at lw_m4 12 rfl) rfl
theorem q797 : (Jvm.Cond.constantDouble "java/lang/StrictMath" (64 : Nat) (13830554455654793216 : UInt64)) ∈ lw_all := lw_g (lw_at lw_m4 13 rfl) rfl
theorem q798 : (Jvm.Cond.methodLink "java/lang/StrictMath" (60 : Nat) ({ cls := "java/lang/StrictMath", name := "floorOrCeil", desc := "(DDDD)D" } : Jvm.MethodName)) ∈ lw_all := lw_g (lw_at lw_m4 14 rfl) rfl
theorem q799 : (Jvm.Cond.static ({ cls := "java/lang/StrictMath", name := "floorOrCeil", desc := "(DDDD)D" } : Jvm.MethodName)) ∈ lw_all := lw_g (lw_at lw_m4 15 rfl) rfl
theorem q800 : (Jvm.Cond.code ({ cls := "java/lang/StrictMath", name := "floorOrCeil", desc := "(DDDD)D" } : Jvm.MethodName) prog_43_method_18_code (15 : Nat) (Option.some Jvm.ClassFile.FieldType.double)) ∈ lw_all := lw_g (lw_at lw_m4 16 rfl) rfl
theorem q801 : (Jvm.Cond.methodLink "java/lang/StrictMath" (66 : Nat) ({ cls := "java/lang/Math", name := "getExponent", desc := "(D)I" } : Jvm.MethodName)) ∈ lw_all := lw_g (lw_at lw_m4 17 rfl) rfl
theorem q806 : (Jvm.Cond.fieldLink "java/lang/StrictMath" (70 : Nat) "java/lang/StrictMath" "$assertionsDisabled" "Z") ∈ lw_all := lw_g (lw_at lw_m4 22 rfl) rfl
theorem q807 : (Jvm.Cond.laysStatic "java/lang/StrictMath" "$assertionsDisabled" "Z") ∈ lw_tbl := lw_at lw_m4 23 rfl
theorem q808 : (Jvm.Cond.methodLink "java/lang/StrictMath" (77 : Nat) ({ cls := "java/lang/Double", name := "doubleToRawLongBits", desc := "(D)J" } : Jvm.MethodName)) ∈ lw_all := lw_g (lw_at lw_m4 24 rfl) rfl
theorem q809 : (Jvm.Cond.constantLong "java/lang/StrictMath" (85 : Nat) (4503599627370495 : Int64)) ∈ lw_all := lw_g (lw_at lw_m4 25 rfl) rfl
theorem q810 : (Jvm.Cond.constantLong "java/lang/StrictMath" (87 : Nat) (-1 : Int64)) ∈ lw_all := lw_g (lw_at lw_m4 26 rfl) rfl
theorem q811 : (Jvm.Cond.methodLink "java/lang/StrictMath" (89 : Nat) ({ cls := "java/lang/Double", name := "longBitsToDouble", desc := "(J)D" } : Jvm.MethodName)) ∈ lw_all := lw_g (lw_at lw_m4 27 rfl) rfl
theorem q816 : (Jvm.Cond.static ({ cls := "java/lang/StrictMath", name := "ceil", desc := "(D)D" } : Jvm.MethodName)) ∈ lw_all := lw_g (lw_at lw_m4 32 rfl) rfl
theorem q817 : (Jvm.Cond.code ({ cls := "java/lang/StrictMath", name := "ceil", desc := "(D)D" } : Jvm.MethodName) prog_43_method_16_code (2 : Nat) (Option.some Jvm.ClassFile.FieldType.double)) ∈ lw_all := lw_g (lw_at lw_m4 33 rfl) rfl
theorem q818 : (Jvm.Cond.constantDouble "java/lang/StrictMath" (58 : Nat) (9223372036854775808 : UInt64)) ∈ lw_all := lw_g (lw_at lw_m4 34 rfl) rfl

/-! java/lang/ArithmeticException -/
set_option maxRecDepth 100000
def RJ15 : String := "java/lang/ArithmeticException"
def TJ15 : u_T := fun k => match k with
  | 0 => ("java/lang/Throwable", "backtrace", "Ljava/lang/Object;", false)
  | 1 => ("java/lang/Throwable", "detailMessage", "Ljava/lang/String;", false)
  | 2 => ("java/lang/Throwable", "cause", "Ljava/lang/Throwable;", false)
  | 3 => ("java/lang/Throwable", "stackTrace", "[Ljava/lang/StackTraceElement;", false)
  | 4 => ("java/lang/Throwable", "depth", "I", false)
  | _ => ("java/lang/Throwable", "suppressedExceptions", "Ljava/util/List;", false)
def tyJ15 : Nat → FieldType := fun k => match k with
  | 0 => .object "java/lang/Object"
  | 1 => .object "java/lang/String"
  | 2 => .object "java/lang/Throwable"
  | 3 => .array (.object "java/lang/StackTraceElement")
  | 4 => .int
  | _ => .object "java/util/List"
abbrev wsJ150 : List Cond := u_ws RJ15 TJ15 6
theorem nmJ15 : ∀ a, a < 6 → ∀ b, b < 6 → a ≠ b → (TJ15 a).2.1 ≠ (TJ15 b).2.1 := by decide +kernel
theorem tyJ15_ok : ∀ k, k < 6 → parseFieldDescriptor (TJ15 k).2.2.1 = some (tyJ15 k) := by decide +kernel
abbrev cJ15_init : ByteArray := prog_29_method_2_code
def yJ15_init : MethodName := ⟨RJ15, "<init>", "(Ljava/lang/String;)V"⟩
def dkwJ15_init_0 : List UInt8 := [42, 43, 183, 0, 7, 177]
abbrev dktJ15_init_0 : List UInt8 := dkwJ15_init_0 ++ []
theorem dksJ15_init_0 : cJ15_init.data.toList.drop 0 = dktJ15_init_0 := by decide +kernel
theorem dJ15_init_0 : decode cJ15_init 0 = .ok (.aload_n 0, 1) := dk_42 (dk_at dksJ15_init_0 0 rfl rfl)
theorem dJ15_init_1 : decode cJ15_init 1 = .ok (.aload_n 1, 1) := dk_43 (dk_at dksJ15_init_0 1 rfl rfl)
theorem dJ15_init_2 : decode cJ15_init 2 = .ok (.invokespecial 7, 3) := dk_183 0 7 (dk_at dksJ15_init_0 2 rfl rfl)
theorem dJ15_init_5 : decode cJ15_init 5 = .ok (.return_, 1) := dk_177 (dk_at dksJ15_init_0 5 rfl rfl)
abbrev cJ15_init_2 : ByteArray := prog_29_method_1_code
def yJ15_init_2 : MethodName := ⟨RJ15, "<init>", "()V"⟩
theorem dJ15_init_2_0 : decode cJ15_init_2 0 = .ok (.aload_n 0, 1) := by decide +kernel
theorem dJ15_init_2_1 : decode cJ15_init_2 1 = .ok (.invokespecial 1, 3) := by decide +kernel
theorem dJ15_init_2_4 : decode cJ15_init_2 4 = .ok (.return_, 1) := by decide +kernel
theorem q87 : (Jvm.Cond.initialized "java/lang/ArithmeticException") ∈ lw_all := lw_g (lw_at lw_m1 23 rfl) rfl
theorem q417 : (Jvm.Cond.selects "java/lang/ArithmeticException" ({ cls := "java/lang/Throwable", name := "fillInStackTrace", desc := "()Ljava/lang/Throwable;" } : Jvm.MethodName) ({ cls := "java/lang/Throwable", name := "fillInStackTrace", desc := "()Ljava/lang/Throwable;" } : Jvm.MethodName)) ∈ lw_all := lw_g (lw_at lw_m2 113 rfl) rfl
theorem q762 : (Jvm.Cond.instantiable "java/lang/ArithmeticException" (6 : Nat)) ∈ lw_all := lw_g (lw_at lw_m3 218 rfl) rfl
theorem q763 : (Jvm.Cond.instanceMethod ({ cls := "java/lang/ArithmeticException", name := "<init>", desc := "(Ljava/lang/String;)V" } : Jvm.MethodName)) ∈ lw_all := lw_g (lw_at lw_m3 219 rfl) rfl
theorem q764 : (Jvm.Cond.code ({ cls := "java/lang/ArithmeticException", name := "<init>", desc := "(Ljava/lang/String;)V" } : Jvm.MethodName) prog_29_method_2_code (2 : Nat) (Option.none : Option Jvm.ClassFile.FieldType)) ∈ lw_all := lw_g (lw_at lw_m3 220 rfl) rfl
theorem q765 : (Jvm.Cond.methodLink "java/lang/ArithmeticException" (7 : Nat) ({ cls := "java/lang/RuntimeException", name := "<init>", desc := "(Ljava/lang/String;)V" } : Jvm.MethodName)) ∈ lw_all := lw_g (lw_at lw_m3 221 rfl) rfl
theorem q766 : (Jvm.Cond.lays "java/lang/ArithmeticException" "java/lang/Throwable" "backtrace" "Ljava/lang/Object;") ∈ lw_all := lw_g (lw_at lw_m3 222 rfl) rfl
theorem q767 : (Jvm.Cond.lays "java/lang/ArithmeticException" "java/lang/Throwable" "detailMessage" "Ljava/lang/String;") ∈ lw_all := lw_g (lw_at lw_m3 223 rfl) rfl
theorem q768 : (Jvm.Cond.lays "java/lang/ArithmeticException" "java/lang/Throwable" "cause" "Ljava/lang/Throwable;") ∈ lw_all := lw_g (lw_at lw_m3 224 rfl) rfl
theorem q769 : (Jvm.Cond.lays "java/lang/ArithmeticException" "java/lang/Throwable" "stackTrace" "[Ljava/lang/StackTraceElement;") ∈ lw_all := lw_g (lw_at lw_m3 225 rfl) rfl
theorem q770 : (Jvm.Cond.lays "java/lang/ArithmeticException" "java/lang/Throwable" "depth" "I") ∈ lw_all := lw_g (lw_at lw_m3 226 rfl) rfl
theorem q771 : (Jvm.Cond.lays "java/lang/ArithmeticException" "java/lang/Throwable" "suppressedExceptions" "Ljava/util/List;") ∈ lw_all := lw_g (lw_at lw_m3 227 rfl) rfl
theorem q772 : (Jvm.Cond.superclass "java/lang/ArithmeticException" "java/lang/RuntimeException") ∈ lw_all := lw_g (lw_at lw_m3 228 rfl) rfl
theorem q773 : (Jvm.Cond.castable "java/lang/ArithmeticException" "java/lang/ArithmeticException") ∈ lw_tbl := lw_at lw_m3 229 rfl
theorem q774 : (Jvm.Cond.selects "java/lang/ArithmeticException" ({ cls := "java/lang/Throwable", name := "fillInStackTrace", desc := "(I)Ljava/lang/Throwable;" } : Jvm.MethodName) ({ cls := "java/lang/Throwable", name := "fillInStackTrace", desc := "(I)Ljava/lang/Throwable;" } : Jvm.MethodName)) ∈ lw_all := lw_g (lw_at lw_m3 230 rfl) rfl
theorem q782 : (Jvm.Cond.instanceMethod ({ cls := "java/lang/ArithmeticException", name := "<init>", desc := "()V" } : Jvm.MethodName)) ∈ lw_all := lw_g (lw_at lw_m3 238 rfl) rfl
theorem q783 : (Jvm.Cond.code ({ cls := "java/lang/ArithmeticException", name := "<init>", desc := "()V" } : Jvm.MethodName) prog_29_method_1_code (1 : Nat) (Option.none : Option Jvm.ClassFile.FieldType)) ∈ lw_all := lw_g (lw_at lw_m3 239 rfl) rfl
theorem q784 : (Jvm.Cond.methodLink "java/lang/ArithmeticException" (1 : Nat) ({ cls := "java/lang/RuntimeException", name := "<init>", desc := "()V" } : Jvm.MethodName)) ∈ lw_all := lw_g (lw_at lw_m4 0 rfl) rfl
theorem q1350 : (Jvm.Cond.selects "java/lang/ArithmeticException" ({ cls := "java/lang/Object", name := "getClass", desc := "()Ljava/lang/Class;" } : Jvm.MethodName) ({ cls := "java/lang/Object", name := "getClass", desc := "()Ljava/lang/Class;" } : Jvm.MethodName)) ∈ lw_all := lw_g (lw_at lw_m6 86 rfl) rfl
theorem q2064 : (Jvm.Cond.castable "java/lang/ArithmeticException" "java/lang/Object") ∈ lw_tbl := lw_at lw_m9 80 rfl
theorem in_J15 : ∀ w ∈ wsJ150, w ∈ lw_all := lw_in wsJ150 [766, 767, 768, 769, 770, 771] (by decide +kernel) (by decide +kernel)

/-! RoundingAuditor$Far -/
set_option maxRecDepth 100000
def RX7 : String := "RoundingAuditor$Far"
def TX7 : u_T := fun k => match k with
  | 0 => ("java/lang/Throwable", "cause", "Ljava/lang/Throwable;", false)
  | 1 => ("java/lang/Throwable", "stackTrace", "[Ljava/lang/StackTraceElement;", false)
  | 2 => ("java/lang/Throwable", "suppressedExceptions", "Ljava/util/List;", false)
  | 3 => ("java/lang/Throwable", "detailMessage", "Ljava/lang/String;", false)
  | 4 => ("java/lang/Throwable", "backtrace", "Ljava/lang/Object;", false)
  | _ => ("java/lang/Throwable", "depth", "I", false)
def tyX7 : Nat → FieldType := fun k => match k with
  | 0 => .object "java/lang/Throwable"
  | 1 => .array (.object "java/lang/StackTraceElement")
  | 2 => .object "java/util/List"
  | 3 => .object "java/lang/String"
  | 4 => .object "java/lang/Object"
  | _ => .int
abbrev wsX70 : List Cond := u_ws RX7 TX7 6
theorem nmX7 : ∀ a, a < 6 → ∀ b, b < 6 → a ≠ b → (TX7 a).2.1 ≠ (TX7 b).2.1 := by decide +kernel
theorem tyX7_ok : ∀ k, k < 6 → parseFieldDescriptor (TX7 k).2.2.1 = some (tyX7 k) := by decide +kernel
abbrev cX7_init : ByteArray := prog_10_method_1_code
def yX7_init : MethodName := ⟨RX7, "<init>", "()V"⟩
def dkwX7_init_0 : List UInt8 := [42, 1, 1, 3, 3, 183, 0, 1, 177]
abbrev dktX7_init_0 : List UInt8 := dkwX7_init_0 ++ []
theorem dksX7_init_0 : cX7_init.data.toList.drop 0 = dktX7_init_0 := by decide +kernel
theorem dX7_init_0 : decode cX7_init 0 = .ok (.aload_n 0, 1) := dk_42 (dk_at dksX7_init_0 0 rfl rfl)
theorem dX7_init_1 : decode cX7_init 1 = .ok (.aconst_null, 1) := dk_1 (dk_at dksX7_init_0 1 rfl rfl)
theorem dX7_init_2 : decode cX7_init 2 = .ok (.aconst_null, 1) := dk_1 (dk_at dksX7_init_0 2 rfl rfl)
theorem dX7_init_3 : decode cX7_init 3 = .ok (.iconst 0, 1) := dk_3 (dk_at dksX7_init_0 3 rfl rfl)
theorem dX7_init_4 : decode cX7_init 4 = .ok (.iconst 0, 1) := dk_3 (dk_at dksX7_init_0 4 rfl rfl)
theorem dX7_init_5 : decode cX7_init 5 = .ok (.invokespecial 1, 3) := dk_183 0 1 (dk_at dksX7_init_0 5 rfl rfl)
theorem dX7_init_8 : decode cX7_init 8 = .ok (.return_, 1) := dk_177 (dk_at dksX7_init_0 8 rfl rfl)
theorem q88 : (Jvm.Cond.initialized "RoundingAuditor$Far") ∈ lw_all := lw_g (lw_at lw_m1 24 rfl) rfl
theorem q416 : (Jvm.Cond.selects "RoundingAuditor$Far" ({ cls := "java/lang/Throwable", name := "fillInStackTrace", desc := "()Ljava/lang/Throwable;" } : Jvm.MethodName) ({ cls := "java/lang/Throwable", name := "fillInStackTrace", desc := "()Ljava/lang/Throwable;" } : Jvm.MethodName)) ∈ lw_all := lw_g (lw_at lw_m2 112 rfl) rfl
theorem q890 : (Jvm.Cond.instantiable "RoundingAuditor$Far" (6 : Nat)) ∈ lw_all := lw_g (lw_at lw_m4 106 rfl) rfl
theorem q891 : (Jvm.Cond.castable "RoundingAuditor$Far" "RoundingAuditor$Far") ∈ lw_tbl := lw_at lw_m4 107 rfl
theorem q892 : (Jvm.Cond.selects "RoundingAuditor$Far" ({ cls := "java/lang/Throwable", name := "fillInStackTrace", desc := "(I)Ljava/lang/Throwable;" } : Jvm.MethodName) ({ cls := "java/lang/Throwable", name := "fillInStackTrace", desc := "(I)Ljava/lang/Throwable;" } : Jvm.MethodName)) ∈ lw_all := lw_g (lw_at lw_m4 108 rfl) rfl
theorem q893 : (Jvm.Cond.lays "RoundingAuditor$Far" "java/lang/Throwable" "cause" "Ljava/lang/Throwable;") ∈ lw_all := lw_g (lw_at lw_m4 109 rfl) rfl
theorem q894 : (Jvm.Cond.lays "RoundingAuditor$Far" "java/lang/Throwable" "stackTrace" "[Ljava/lang/StackTraceElement;") ∈ lw_all := lw_g (lw_at lw_m4 110 rfl) rfl
theorem q895 : (Jvm.Cond.lays "RoundingAuditor$Far" "java/lang/Throwable" "suppressedExceptions" "Ljava/util/List;") ∈ lw_all := lw_g (lw_at lw_m4 111 rfl) rfl
theorem q896 : (Jvm.Cond.lays "RoundingAuditor$Far" "java/lang/Throwable" "detailMessage" "Ljava/lang/String;") ∈ lw_all := lw_g (lw_at lw_m4 112 rfl) rfl
theorem q897 : (Jvm.Cond.lays "RoundingAuditor$Far" "java/lang/Throwable" "backtrace" "Ljava/lang/Object;") ∈ lw_all := lw_g (lw_at lw_m4 113 rfl) rfl
theorem q899 : (Jvm.Cond.instanceMethod ({ cls := "RoundingAuditor$Far", name := "<init>", desc := "()V" } : Jvm.MethodName)) ∈ lw_all := lw_g (lw_at lw_m4 115 rfl) rfl
theorem q900 : (Jvm.Cond.code ({ cls := "RoundingAuditor$Far", name := "<init>", desc := "()V" } : Jvm.MethodName) prog_10_method_1_code (1 : Nat) (Option.none : Option Jvm.ClassFile.FieldType)) ∈ lw_all := lw_g (lw_at lw_m4 116 rfl) rfl
theorem q901 : (Jvm.Cond.methodLink "RoundingAuditor$Far" (1 : Nat) ({ cls := "java/lang/Exception", name := "<init>", desc := "(Ljava/lang/String;Ljava/lang/Throwable;ZZ)V" } : Jvm.MethodName)) ∈ lw_all := lw_g (lw_at lw_m4 117 rfl) rfl
theorem q907 : (Jvm.Cond.lays "RoundingAuditor$Far" "java/lang/Throwable" "depth" "I") ∈ lw_all := lw_g (lw_at lw_m4 123 rfl) rfl
theorem q908 : (Jvm.Cond.superclass "RoundingAuditor$Far" "java/lang/Exception") ∈ lw_all := lw_g (lw_at lw_m4 124 rfl) rfl
theorem q1337 : (Jvm.Cond.selects "RoundingAuditor$Far" ({ cls := "java/lang/Object", name := "getClass", desc := "()Ljava/lang/Class;" } : Jvm.MethodName) ({ cls := "java/lang/Object", name := "getClass", desc := "()Ljava/lang/Class;" } : Jvm.MethodName)) ∈ lw_all := lw_g (lw_at lw_m6 73 rfl) rfl
theorem q2065 : (Jvm.Cond.castable "RoundingAuditor$Far" "java/lang/Object") ∈ lw_tbl := lw_at lw_m9 81 rfl
theorem in_X7 : ∀ w ∈ wsX70, w ∈ lw_all := lw_in wsX70 [893, 894, 895, 896, 897, 907] (by decide +kernel) (by decide +kernel)

/-! RoundingAuditor$Tape -/
set_option maxRecDepth 100000
def RX8 : String := "RoundingAuditor$Tape"
def TX8 : u_T := fun k => match k with
  | 0 => ("RoundingAuditor$Tape", "isWide", "Z", true)
  | 1 => ("RoundingAuditor$Tape", "way", "I", true)
  | 2 => ("RoundingAuditor$Tape", "lefts", "[D", true)
  | 3 => ("RoundingAuditor$Tape", "rights", "[D", true)
  | 4 => ("RoundingAuditor$Tape", "results", "[D", true)
  | 5 => ("RoundingAuditor$Tape", "count", "I", false)
  | _ => ("RoundingAuditor$Tape", "total", "D", false)
def tyX8 : Nat → FieldType := fun k => match k with
  | 0 => .boolean
  | 1 => .int
  | 2 => .array .double
  | 3 => .array .double
  | 4 => .array .double
  | 5 => .int
  | _ => .double
abbrev wsX80 : List Cond := u_ws RX8 TX8 7
theorem nmX8 : ∀ a, a < 7 → ∀ b, b < 7 → a ≠ b → (TX8 a).2.1 ≠ (TX8 b).2.1 := by decide +kernel
theorem tyX8_ok : ∀ k, k < 7 → parseFieldDescriptor (TX8 k).2.2.1 = some (tyX8 k) := by decide +kernel
abbrev cX8_bits : ByteArray := prog_23_method_3_code
def yX8_bits : MethodName := ⟨RX8, "bits", "(D)J"⟩
def dkwX8_bits_0 : List UInt8 := [42, 180, 0, 7, 153, 0, 10, 39, 184, 0, 30, 167, 0, 9, 39, 144, 184, 0, 36, 133, 173]
abbrev dktX8_bits_0 : List UInt8 := dkwX8_bits_0 ++ []
theorem dksX8_bits_0 : cX8_bits.data.toList.drop 0 = dktX8_bits_0 := by decide +kernel
theorem dX8_bits_0 : decode cX8_bits 0 = .ok (.aload_n 0, 1) := dk_42 (dk_at dksX8_bits_0 0 rfl rfl)
theorem dX8_bits_1 : decode cX8_bits 1 = .ok (.getfield 7, 3) := dk_180 0 7 (dk_at dksX8_bits_0 1 rfl rfl)
theorem dX8_bits_4 : decode cX8_bits 4 = .ok (.ifCond .eq 10, 3) := dk_153 0 10 (dk_at dksX8_bits_0 4 rfl rfl)
theorem dX8_bits_7 : decode cX8_bits 7 = .ok (.dload_n 1, 1) := dk_39 (dk_at dksX8_bits_0 7 rfl rfl)
theorem dX8_bits_8 : decode cX8_bits 8 = .ok (.invokestatic 30, 3) := dk_184 0 30 (dk_at dksX8_bits_0 8 rfl rfl)
theorem dX8_bits_11 : decode cX8_bits 11 = .ok (.goto 9, 3) := dk_167 0 9 (dk_at dksX8_bits_0 11 rfl rfl)
theorem dX8_bits_14 : decode cX8_bits 14 = .ok (.dload_n 1, 1) := dk_39 (dk_at dksX8_bits_0 14 rfl rfl)
theorem dX8_bits_15 : decode cX8_bits 15 = .ok (.d2f, 1) := dk_144 (dk_at dksX8_bits_0 15 rfl rfl)
theorem dX8_bits_16 : decode cX8_bits 16 = .ok (.invokestatic 36, 3) := dk_184 0 36 (dk_at dksX8_bits_0 16 rfl rfl)
theorem dX8_bits_19 : decode cX8_bits 19 = .ok (.i2l, 1) := dk_133 (dk_at dksX8_bits_0 19 rfl rfl)
theorem dX8_bits_20 : decode cX8_bits 20 = .ok (.lreturn, 1) := dk_173 (dk_at dksX8_bits_0 20 rfl rfl)
abbrev cX8_init : ByteArray := prog_23_method_1_code
def yX8_init : MethodName := ⟨RX8, "<init>", "(ZII)V"⟩
def dkwX8_init_1 : List UInt8 := [188, 7, 181, 0, 21, 42, 29, 188, 7, 181, 0, 24, 177]
abbrev dktX8_init_1 : List UInt8 := dkwX8_init_1 ++ []
def dkwX8_init_0 : List UInt8 := [42, 183, 0, 1, 42, 27, 181, 0, 7, 42, 28, 181, 0, 13, 42, 29, 188, 7, 181, 0, 17, 42, 29]
abbrev dktX8_init_0 : List UInt8 := dkwX8_init_0 ++ dktX8_init_1
theorem dksX8_init_0 : cX8_init.data.toList.drop 0 = dktX8_init_0 := by decide +kernel
theorem dksX8_init_1 : cX8_init.data.toList.drop 23 = dktX8_init_1 := dk_seg dksX8_init_0 23 rfl rfl
theorem dX8_init_0 : decode cX8_init 0 = .ok (.aload_n 0, 1) := dk_42 (dk_at dksX8_init_0 0 rfl rfl)
theorem dX8_init_1 : decode cX8_init 1 = .ok (.invokespecial 1, 3) := dk_183 0 1 (dk_at dksX8_init_0 1 rfl rfl)
theorem dX8_init_4 : decode cX8_init 4 = .ok (.aload_n 0, 1) := dk_42 (dk_at dksX8_init_0 4 rfl rfl)
theorem dX8_init_5 : decode cX8_init 5 = .ok (.iload_n 1, 1) := dk_27 (dk_at dksX8_init_0 5 rfl rfl)
theorem dX8_init_6 : decode cX8_init 6 = .ok (.putfield 7, 3) := dk_181 0 7 (dk_at dksX8_init_0 6 rfl rfl)
theorem dX8_init_9 : decode cX8_init 9 = .ok (.aload_n 0, 1) := dk_42 (dk_at dksX8_init_0 9 rfl rfl)
theorem dX8_init_10 : decode cX8_init 10 = .ok (.iload_n 2, 1) := dk_28 (dk_at dksX8_init_0 10 rfl rfl)
theorem dX8_init_11 : decode cX8_init 11 = .ok (.putfield 13, 3) := dk_181 0 13 (dk_at dksX8_init_0 11 rfl rfl)
theorem dX8_init_14 : decode cX8_init 14 = .ok (.aload_n 0, 1) := dk_42 (dk_at dksX8_init_0 14 rfl rfl)
theorem dX8_init_15 : decode cX8_init 15 = .ok (.iload_n 3, 1) := dk_29 (dk_at dksX8_init_0 15 rfl rfl)
theorem dX8_init_16 : decode cX8_init 16 = .ok (.newarray .double, 2) := dk_188_7 (dk_at dksX8_init_0 16 rfl rfl)
theorem dX8_init_18 : decode cX8_init 18 = .ok (.putfield 17, 3) := dk_181 0 17 (dk_at dksX8_init_0 18 rfl rfl)
theorem dX8_init_21 : decode cX8_init 21 = .ok (.aload_n 0, 1) := dk_42 (dk_at dksX8_init_0 21 rfl rfl)
theorem dX8_init_22 : decode cX8_init 22 = .ok (.iload_n 3, 1) := dk_29 (dk_at dksX8_init_0 22 rfl rfl)
theorem dX8_init_23 : decode cX8_init 23 = .ok (.newarray .double, 2) := dk_188_7 (dk_at dksX8_init_1 0 rfl rfl)
theorem dX8_init_25 : decode cX8_init 25 = .ok (.putfield 21, 3) := dk_181 0 21 (dk_at dksX8_init_1 2 rfl rfl)
theorem dX8_init_28 : decode cX8_init 28 = .ok (.aload_n 0, 1) := dk_42 (dk_at dksX8_init_1 5 rfl rfl)
theorem dX8_init_29 : decode cX8_init 29 = .ok (.iload_n 3, 1) := dk_29 (dk_at dksX8_init_1 6 rfl rfl)
theorem dX8_init_30 : decode cX8_init 30 = .ok (.newarray .double, 2) := dk_188_7 (dk_at dksX8_init_1 7 rfl rfl)
theorem dX8_init_32 : decode cX8_init 32 = .ok (.putfield 24, 3) := dk_181 0 24 (dk_at dksX8_init_1 9 rfl rfl)
theorem dX8_init_35 : decode cX8_init 35 = .ok (.return_, 1) := dk_177 (dk_at dksX8_init_1 12 rfl rfl)
abbrev cX8_tell : ByteArray := prog_23_method_2_code
def yX8_tell : MethodName := ⟨RX8, "tell", "(DDD)D"⟩
def dkwX8_tell_1 : List UInt8 := [42, 180, 0, 27, 24, 5, 82, 42, 89, 180, 0, 27, 4, 96, 181, 0, 27, 24, 5, 175]
abbrev dktX8_tell_1 : List UInt8 := dkwX8_tell_1 ++ []
def dkwX8_tell_0 : List UInt8 := [42, 180, 0, 17, 42, 180, 0, 27, 39, 82, 42, 180, 0, 21, 42, 180, 0, 27, 41, 82, 42, 180, 0, 24]
abbrev dktX8_tell_0 : List UInt8 := dkwX8_tell_0 ++ dktX8_tell_1
theorem dksX8_tell_0 : cX8_tell.data.toList.drop 0 = dktX8_tell_0 := by decide +kernel
theorem dksX8_tell_1 : cX8_tell.data.toList.drop 24 = dktX8_tell_1 := dk_seg dksX8_tell_0 24 rfl rfl
theorem dX8_tell_0 : decode cX8_tell 0 = .ok (.aload_n 0, 1) := dk_42 (dk_at dksX8_tell_0 0 rfl rfl)
theorem dX8_tell_1 : decode cX8_tell 1 = .ok (.getfield 17, 3) := dk_180 0 17 (dk_at dksX8_tell_0 1 rfl rfl)
theorem dX8_tell_4 : decode cX8_tell 4 = .ok (.aload_n 0, 1) := dk_42 (dk_at dksX8_tell_0 4 rfl rfl)
theorem dX8_tell_5 : decode cX8_tell 5 = .ok (.getfield 27, 3) := dk_180 0 27 (dk_at dksX8_tell_0 5 rfl rfl)
theorem dX8_tell_8 : decode cX8_tell 8 = .ok (.dload_n 1, 1) := dk_39 (dk_at dksX8_tell_0 8 rfl rfl)
theorem dX8_tell_9 : decode cX8_tell 9 = .ok (.dastore, 1) := dk_82 (dk_at dksX8_tell_0 9 rfl rfl)
theorem dX8_tell_10 : decode cX8_tell 10 = .ok (.aload_n 0, 1) := dk_42 (dk_at dksX8_tell_0 10 rfl rfl)
theorem dX8_tell_11 : decode cX8_tell 11 = .ok (.getfield 21, 3) := dk_180 0 21 (dk_at dksX8_tell_0 11 rfl rfl)
theorem dX8_tell_14 : decode cX8_tell 14 = .ok (.aload_n 0, 1) := dk_42 (dk_at dksX8_tell_0 14 rfl rfl)
theorem dX8_tell_15 : decode cX8_tell 15 = .ok (.getfield 27, 3) := dk_180 0 27 (dk_at dksX8_tell_0 15 rfl rfl)
theorem dX8_tell_18 : decode cX8_tell 18 = .ok (.dload_n 3, 1) := dk_41 (dk_at dksX8_tell_0 18 rfl rfl)
theorem dX8_tell_19 : decode cX8_tell 19 = .ok (.dastore, 1) := dk_82 (dk_at dksX8_tell_0 19 rfl rfl)
theorem dX8_tell_20 : decode cX8_tell 20 = .ok (.aload_n 0, 1) := dk_42 (dk_at dksX8_tell_0 20 rfl rfl)
theorem dX8_tell_21 : decode cX8_tell 21 = .ok (.getfield 24, 3) := dk_180 0 24 (dk_at dksX8_tell_0 21 rfl rfl)
theorem dX8_tell_24 : decode cX8_tell 24 = .ok (.aload_n 0, 1) := dk_42 (dk_at dksX8_tell_1 0 rfl rfl)
theorem dX8_tell_25 : decode cX8_tell 25 = .ok (.getfield 27, 3) := dk_180 0 27 (dk_at dksX8_tell_1 1 rfl rfl)
theorem dX8_tell_28 : decode cX8_tell 28 = .ok (.dload 5, 2) := dk_24 5 (dk_at dksX8_tell_1 4 rfl rfl)
theorem dX8_tell_30 : decode cX8_tell 30 = .ok (.dastore, 1) := dk_82 (dk_at dksX8_tell_1 6 rfl rfl)
theorem dX8_tell_31 : decode cX8_tell 31 = .ok (.aload_n 0, 1) := dk_42 (dk_at dksX8_tell_1 7 rfl rfl)
theorem dX8_tell_32 : decode cX8_tell 32 = .ok (.dup, 1) := dk_89 (dk_at dksX8_tell_1 8 rfl rfl)
theorem dX8_tell_33 : decode cX8_tell 33 = .ok (.getfield 27, 3) := dk_180 0 27 (dk_at dksX8_tell_1 9 rfl rfl)
theorem dX8_tell_36 : decode cX8_tell 36 = .ok (.iconst 1, 1) := dk_4 (dk_at dksX8_tell_1 12 rfl rfl)
theorem dX8_tell_37 : decode cX8_tell 37 = .ok (.iadd, 1) := dk_96 (dk_at dksX8_tell_1 13 rfl rfl)
theorem dX8_tell_38 : decode cX8_tell 38 = .ok (.putfield 27, 3) := dk_181 0 27 (dk_at dksX8_tell_1 14 rfl rfl)
theorem dX8_tell_41 : decode cX8_tell 41 = .ok (.dload 5, 2) := dk_24 5 (dk_at dksX8_tell_1 17 rfl rfl)
theorem dX8_tell_43 : decode cX8_tell 43 = .ok (.dreturn, 1) := dk_175 (dk_at dksX8_tell_1 19 rfl rfl)
theorem q89 : (Jvm.Cond.initialized "RoundingAuditor$Tape") ∈ lw_all := lw_g (lw_at lw_m1 25 rfl) rfl
theorem q223 : (Jvm.Cond.instanceMethod ({ cls := "RoundingAuditor$Tape", name := "bits", desc := "(D)J" } : Jvm.MethodName)) ∈ lw_all := lw_g (lw_at lw_m1 159 rfl) rfl
theorem q224 : (Jvm.Cond.selects "RoundingAuditor$Tape" ({ cls := "RoundingAuditor$Tape", name := "bits", desc := "(D)J" } : Jvm.MethodName) ({ cls := "RoundingAuditor$Tape", name := "bits", desc := "(D)J" } : Jvm.MethodName)) ∈ lw_all := lw_g (lw_at lw_m1 160 rfl) rfl
theorem q225 : (Jvm.Cond.code ({ cls := "RoundingAuditor$Tape", name := "bits", desc := "(D)J" } : Jvm.MethodName) prog_23_method_3_code (3 : Nat) (Option.some Jvm.ClassFile.FieldType.long)) ∈ lw_all := lw_g (lw_at lw_m1 161 rfl) rfl
theorem q226 : (Jvm.Cond.methodLink "RoundingAuditor$Tape" (30 : Nat) ({ cls := "java/lang/Double", name := "doubleToLongBits", desc := "(D)J" } : Jvm.MethodName)) ∈ lw_all := lw_g (lw_at lw_m1 162 rfl) rfl
theorem q236 : (Jvm.Cond.methodLink "RoundingAuditor$Tape" (36 : Nat) ({ cls := "java/lang/Float", name := "floatToIntBits", desc := "(F)I" } : Jvm.MethodName)) ∈ lw_all := lw_g (lw_at lw_m1 172 rfl) rfl
theorem q940 : (Jvm.Cond.instantiable "RoundingAuditor$Tape" (7 : Nat)) ∈ lw_all := lw_g (lw_at lw_m4 156 rfl) rfl
theorem q942 : (Jvm.Cond.instanceMethod ({ cls := "RoundingAuditor$Tape", name := "<init>", desc := "(ZII)V" } : Jvm.MethodName)) ∈ lw_all := lw_g (lw_at lw_m4 158 rfl) rfl
theorem q943 : (Jvm.Cond.code ({ cls := "RoundingAuditor$Tape", name := "<init>", desc := "(ZII)V" } : Jvm.MethodName) prog_23_method_1_code (4 : Nat) (Option.none : Option Jvm.ClassFile.FieldType)) ∈ lw_all := lw_g (lw_at lw_m4 159 rfl) rfl
theorem q944 : (Jvm.Cond.methodLink "RoundingAuditor$Tape" (1 : Nat) ({ cls := "java/lang/Object", name := "<init>", desc := "()V" } : Jvm.MethodName)) ∈ lw_all := lw_g (lw_at lw_m4 160 rfl) rfl
theorem q945 : (Jvm.Cond.fieldLink "RoundingAuditor$Tape" (7 : Nat) "RoundingAuditor$Tape" "isWide" "Z") ∈ lw_all := lw_g (lw_at lw_m4 161 rfl) rfl
theorem q946 : (Jvm.Cond.fieldLink "RoundingAuditor$Tape" (13 : Nat) "RoundingAuditor$Tape" "way" "I") ∈ lw_all := lw_g (lw_at lw_m4 162 rfl) rfl
theorem q948 : (Jvm.Cond.fieldLink "RoundingAuditor$Tape" (17 : Nat) "RoundingAuditor$Tape" "lefts" "[D") ∈ lw_all := lw_g (lw_at lw_m4 164 rfl) rfl
theorem q950 : (Jvm.Cond.fieldLink "RoundingAuditor$Tape" (21 : Nat) "RoundingAuditor$Tape" "rights" "[D") ∈ lw_all := lw_g (lw_at lw_m4 166 rfl) rfl
theorem q952 : (Jvm.Cond.fieldLink "RoundingAuditor$Tape" (24 : Nat) "RoundingAuditor$Tape" "results" "[D") ∈ lw_all := lw_g (lw_at lw_m4 168 rfl) rfl
theorem q954 : (Jvm.Cond.fieldLink "RoundingAuditor$Tape" (27 : Nat) "RoundingAuditor$Tape" "count" "I") ∈ lw_all := lw_g (lw_at lw_m4 170 rfl) rfl
theorem q957 : (Jvm.Cond.laysFinal "RoundingAuditor$Tape" "RoundingAuditor$Tape" "isWide" "Z") ∈ lw_all := lw_g (lw_at lw_m4 173 rfl) rfl
theorem q958 : (Jvm.Cond.soleField "RoundingAuditor$Tape" "isWide") ∈ lw_all := lw_g (lw_at lw_m4 174 rfl) rfl
theorem q959 : (Jvm.Cond.laysFinal "RoundingAuditor$Tape" "RoundingAuditor$Tape" "way" "I") ∈ lw_all := lw_g (lw_at lw_m4 175 rfl) rfl
theorem q960 : (Jvm.Cond.soleField "RoundingAuditor$Tape" "way") ∈ lw_all := lw_g (lw_at lw_m4 176 rfl) rfl
theorem q961 : (Jvm.Cond.laysFinal "RoundingAuditor$Tape" "RoundingAuditor$Tape" "lefts" "[D") ∈ lw_all := lw_g (lw_at lw_m4 177 rfl) rfl
theorem q962 : (Jvm.Cond.soleField "RoundingAuditor$Tape" "lefts") ∈ lw_all := lw_g (lw_at lw_m4 178 rfl) rfl
theorem q963 : (Jvm.Cond.laysFinal "RoundingAuditor$Tape" "RoundingAuditor$Tape" "rights" "[D") ∈ lw_all := lw_g (lw_at lw_m4 179 rfl) rfl
theorem q964 : (Jvm.Cond.soleField "RoundingAuditor$Tape" "rights") ∈ lw_all := lw_g (lw_at lw_m4 180 rfl) rfl
theorem q965 : (Jvm.Cond.laysFinal "RoundingAuditor$Tape" "RoundingAuditor$Tape" "results" "[D") ∈ lw_all := lw_g (lw_at lw_m4 181 rfl) rfl
theorem q966 : (Jvm.Cond.soleField "RoundingAuditor$Tape" "results") ∈ lw_all := lw_g (lw_at lw_m4 182 rfl) rfl
theorem q967 : (Jvm.Cond.lays "RoundingAuditor$Tape" "RoundingAuditor$Tape" "count" "I") ∈ lw_all := lw_g (lw_at lw_m4 183 rfl) rfl
theorem q968 : (Jvm.Cond.soleField "RoundingAuditor$Tape" "count") ∈ lw_all := lw_g (lw_at lw_m4 184 rfl) rfl
theorem q969 : (Jvm.Cond.lays "RoundingAuditor$Tape" "RoundingAuditor$Tape" "total" "D") ∈ lw_all := lw_g (lw_at lw_m4 185 rfl) rfl
theorem q970 : (Jvm.Cond.soleField "RoundingAuditor$Tape" "total") ∈ lw_all := lw_g (lw_at lw_m4 186 rfl) rfl
theorem q971 : (Jvm.Cond.superclass "RoundingAuditor$Tape" "java/lang/Object") ∈ lw_all := lw_g (lw_at lw_m4 187 rfl) rfl
theorem q1155 : (Jvm.Cond.instanceMethod ({ cls := "RoundingAuditor$Tape", name := "tell", desc := "(DDD)D" } : Jvm.MethodName)) ∈ lw_all := lw_g (lw_at lw_m5 131 rfl) rfl
theorem q1156 : (Jvm.Cond.selects "RoundingAuditor$Tape" ({ cls := "RoundingAuditor$Tape", name := "tell", desc := "(DDD)D" } : Jvm.MethodName) ({ cls := "RoundingAuditor$Tape", name := "tell", desc := "(DDD)D" } : Jvm.MethodName)) ∈ lw_all := lw_g (lw_at lw_m5 132 rfl) rfl
theorem q1157 : (Jvm.Cond.code ({ cls := "RoundingAuditor$Tape", name := "tell", desc := "(DDD)D" } : Jvm.MethodName) prog_23_method_2_code (7 : Nat) (Option.some Jvm.ClassFile.FieldType.double)) ∈ lw_all := lw_g (lw_at lw_m5 133 rfl) rfl
theorem q1347 : (Jvm.Cond.selects "RoundingAuditor$Tape" ({ cls := "java/lang/Object", name := "getClass", desc := "()Ljava/lang/Class;" } : Jvm.MethodName) ({ cls := "java/lang/Object", name := "getClass", desc := "()Ljava/lang/Class;" } : Jvm.MethodName)) ∈ lw_all := lw_g (lw_at lw_m6 83 rfl) rfl
theorem q2066 : (Jvm.Cond.castable "RoundingAuditor$Tape" "java/lang/Object") ∈ lw_tbl := lw_at lw_m9 82 rfl
theorem in_X8 : ∀ w ∈ wsX80, w ∈ lw_all := lw_in wsX80 [957, 959, 961, 963, 965, 967, 969] (by decide +kernel) (by decide +kernel)

/-! RoundingAuditor$Way -/
set_option maxRecDepth 100000
def RX9 : String := "RoundingAuditor$Way"
abbrev cX9_init : ByteArray := prog_24_method_1_code
def yX9_init : MethodName := ⟨RX9, "<init>", "()V"⟩
theorem dX9_init_0 : decode cX9_init 0 = .ok (.aload_n 0, 1) := by decide +kernel
theorem dX9_init_1 : decode cX9_init 1 = .ok (.invokespecial 1, 3) := by decide +kernel
theorem dX9_init_4 : decode cX9_init 4 = .ok (.return_, 1) := by decide +kernel
abbrev cX9_total : ByteArray := prog_24_method_4_code
def yX9_total : MethodName := ⟨RX9, "total", "(LRoundingAuditor$Ledger;LRoundingAuditor$Tape;)D"⟩
def dkwX9_total_1 : List UInt8 := [167, 0, 9, 42, 43, 44, 182, 0, 27, 175]
abbrev dktX9_total_1 : List UInt8 := dkwX9_total_1 ++ []
def dkwX9_total_0 : List UInt8 := [43, 182, 0, 19, 154, 0, 7, 14, 167, 0, 25, 43, 182, 0, 19, 4, 160, 0, 11, 43, 3, 182, 0, 23]
abbrev dktX9_total_0 : List UInt8 := dkwX9_total_0 ++ dktX9_total_1
theorem dksX9_total_0 : cX9_total.data.toList.drop 0 = dktX9_total_0 := by decide +kernel
theorem dksX9_total_1 : cX9_total.data.toList.drop 24 = dktX9_total_1 := dk_seg dksX9_total_0 24 rfl rfl
theorem dX9_total_0 : decode cX9_total 0 = .ok (.aload_n 1, 1) := dk_43 (dk_at dksX9_total_0 0 rfl rfl)
theorem dX9_total_1 : decode cX9_total 1 = .ok (.invokevirtual 19, 3) := dk_182 0 19 (dk_at dksX9_total_0 1 rfl rfl)
theorem dX9_total_4 : decode cX9_total 4 = .ok (.ifCond .ne 7, 3) := dk_154 0 7 (dk_at dksX9_total_0 4 rfl rfl)
theorem dX9_total_7 : decode cX9_total 7 = .ok (.dconst 0, 1) := dk_14 (dk_at dksX9_total_0 7 rfl rfl)
theorem dX9_total_8 : decode cX9_total 8 = .ok (.goto 25, 3) := dk_167 0 25 (dk_at dksX9_total_0 8 rfl rfl)
theorem dX9_total_11 : decode cX9_total 11 = .ok (.aload_n 1, 1) := dk_43 (dk_at dksX9_total_0 11 rfl rfl)
theorem dX9_total_12 : decode cX9_total 12 = .ok (.invokevirtual 19, 3) := dk_182 0 19 (dk_at dksX9_total_0 12 rfl rfl)
theorem dX9_total_15 : decode cX9_total 15 = .ok (.iconst 1, 1) := dk_4 (dk_at dksX9_total_0 15 rfl rfl)
theorem dX9_total_16 : decode cX9_total 16 = .ok (.if_icmp .ne 11, 3) := dk_160 0 11 (dk_at dksX9_total_0 16 rfl rfl)
theorem dX9_total_19 : decode cX9_total 19 = .ok (.aload_n 1, 1) := dk_43 (dk_at dksX9_total_0 19 rfl rfl)
theorem dX9_total_20 : decode cX9_total 20 = .ok (.iconst 0, 1) := dk_3 (dk_at dksX9_total_0 20 rfl rfl)
theorem dX9_total_21 : decode cX9_total 21 = .ok (.invokevirtual 23, 3) := dk_182 0 23 (dk_at dksX9_total_0 21 rfl rfl)
theorem dX9_total_24 : decode cX9_total 24 = .ok (.goto 9, 3) := dk_167 0 9 (dk_at dksX9_total_1 0 rfl rfl)
theorem dX9_total_27 : decode cX9_total 27 = .ok (.aload_n 0, 1) := dk_42 (dk_at dksX9_total_1 3 rfl rfl)
theorem dX9_total_28 : decode cX9_total 28 = .ok (.aload_n 1, 1) := dk_43 (dk_at dksX9_total_1 4 rfl rfl)
theorem dX9_total_29 : decode cX9_total 29 = .ok (.aload_n 2, 1) := dk_44 (dk_at dksX9_total_1 5 rfl rfl)
theorem dX9_total_30 : decode cX9_total 30 = .ok (.invokevirtual 27, 3) := dk_182 0 27 (dk_at dksX9_total_1 6 rfl rfl)
theorem dX9_total_33 : decode cX9_total 33 = .ok (.dreturn, 1) := dk_175 (dk_at dksX9_total_1 9 rfl rfl)
abbrev cX9_add : ByteArray := prog_24_method_2_code
def yX9_add : MethodName := ⟨RX9, "add", "(LRoundingAuditor$Ledger;DDLRoundingAuditor$Tape;)D"⟩
def dkwX9_add_0 : List UInt8 := [25, 6, 40, 24, 4, 43, 40, 24, 4, 182, 0, 7, 182, 0, 13, 175]
abbrev dktX9_add_0 : List UInt8 := dkwX9_add_0 ++ []
theorem dksX9_add_0 : cX9_add.data.toList.drop 0 = dktX9_add_0 := by decide +kernel
theorem dX9_add_0 : decode cX9_add 0 = .ok (.aload 6, 2) := dk_25 6 (dk_at dksX9_add_0 0 rfl rfl)
theorem dX9_add_2 : decode cX9_add 2 = .ok (.dload_n 2, 1) := dk_40 (dk_at dksX9_add_0 2 rfl rfl)
theorem dX9_add_3 : decode cX9_add 3 = .ok (.dload 4, 2) := dk_24 4 (dk_at dksX9_add_0 3 rfl rfl)
theorem dX9_add_5 : decode cX9_add 5 = .ok (.aload_n 1, 1) := dk_43 (dk_at dksX9_add_0 5 rfl rfl)
theorem dX9_add_6 : decode cX9_add 6 = .ok (.dload_n 2, 1) := dk_40 (dk_at dksX9_add_0 6 rfl rfl)
theorem dX9_add_7 : decode cX9_add 7 = .ok (.dload 4, 2) := dk_24 4 (dk_at dksX9_add_0 7 rfl rfl)
theorem dX9_add_9 : decode cX9_add 9 = .ok (.invokevirtual 7, 3) := dk_182 0 7 (dk_at dksX9_add_0 9 rfl rfl)
theorem dX9_add_12 : decode cX9_add 12 = .ok (.invokevirtual 13, 3) := dk_182 0 13 (dk_at dksX9_add_0 12 rfl rfl)
theorem dX9_add_15 : decode cX9_add 15 = .ok (.dreturn, 1) := dk_175 (dk_at dksX9_add_0 15 rfl rfl)
theorem q90 : (Jvm.Cond.initialized "RoundingAuditor$Way") ∈ lw_all := lw_g (lw_at lw_m1 26 rfl) rfl
theorem q988 : (Jvm.Cond.instanceMethod ({ cls := "RoundingAuditor$Way", name := "<init>", desc := "()V" } : Jvm.MethodName)) ∈ lw_all := lw_g (lw_at lw_m4 204 rfl) rfl
theorem q989 : (Jvm.Cond.code ({ cls := "RoundingAuditor$Way", name := "<init>", desc := "()V" } : Jvm.MethodName) prog_24_method_1_code (1 : Nat) (Option.none : Option Jvm.ClassFile.FieldType)) ∈ lw_all := lw_g (lw_at lw_m4 205 rfl) rfl
theorem q990 : (Jvm.Cond.methodLink "RoundingAuditor$Way" (1 : Nat) ({ cls := "java/lang/Object", name := "<init>", desc := "()V" } : Jvm.MethodName)) ∈ lw_all := lw_g (lw_at lw_m4 206 rfl) rfl
theorem q1111 : (Jvm.Cond.instanceMethod ({ cls := "RoundingAuditor$Way", name := "total", desc := "(LRoundingAuditor$Ledger;LRoundingAuditor$Tape;)D" } : Jvm.MethodName)) ∈ lw_all := lw_g (lw_at lw_m5 87 rfl) rfl
theorem q1112 : (Jvm.Cond.sameMethod "RoundingAuditor$Way" "RoundingAuditor$Way" "total" "(LRoundingAuditor$Ledger;LRoundingAuditor$Tape;)D") ∈ lw_all := lw_g (lw_at lw_m5 88 rfl) rfl
theorem q1126 : (Jvm.Cond.code ({ cls := "RoundingAuditor$Way", name := "total", desc := "(LRoundingAuditor$Ledger;LRoundingAuditor$Tape;)D" } : Jvm.MethodName) prog_24_method_4_code (3 : Nat) (Option.some Jvm.ClassFile.FieldType.double)) ∈ lw_all := lw_g (lw_at lw_m5 102 rfl) rfl
theorem q1127 : (Jvm.Cond.methodLink "RoundingAuditor$Way" (19 : Nat) ({ cls := "RoundingAuditor$Ledger", name := "length", desc := "()I" } : Jvm.MethodName)) ∈ lw_all := lw_g (lw_at lw_m5 103 rfl) rfl
theorem q1128 : (Jvm.Cond.methodLink "RoundingAuditor$Way" (23 : Nat) ({ cls := "RoundingAuditor$Ledger", name := "at", desc := "(I)D" } : Jvm.MethodName)) ∈ lw_all := lw_g (lw_at lw_m5 104 rfl) rfl
theorem q1129 : (Jvm.Cond.methodLink "RoundingAuditor$Way" (27 : Nat) ({ cls := "RoundingAuditor$Way", name := "sum", desc := "(LRoundingAuditor$Ledger;LRoundingAuditor$Tape;)D" } : Jvm.MethodName)) ∈ lw_all := lw_g (lw_at lw_m5 105 rfl) rfl
theorem q1130 : (Jvm.Cond.declares ({ cls := "RoundingAuditor$Way", name := "sum", desc := "(LRoundingAuditor$Ledger;LRoundingAuditor$Tape;)D" } : Jvm.MethodName)) ∈ lw_tbl := lw_at lw_m5 106 rfl
theorem q1131 : (Jvm.Cond.sameMethod "RoundingAuditor$Way" "RoundingAuditor$Way" "sum" "(LRoundingAuditor$Ledger;LRoundingAuditor$Tape;)D") ∈ lw_all := lw_g (lw_at lw_m5 107 rfl) rfl
theorem q1142 : (Jvm.Cond.declares ({ cls := "RoundingAuditor$Way", name := "add", desc := "(LRoundingAuditor$Ledger;DDLRoundingAuditor$Tape;)D" } : Jvm.MethodName)) ∈ lw_tbl := lw_at lw_m5 118 rfl
theorem q1144 : (Jvm.Cond.instanceMethod ({ cls := "RoundingAuditor$Way", name := "add", desc := "(LRoundingAuditor$Ledger;DDLRoundingAuditor$Tape;)D" } : Jvm.MethodName)) ∈ lw_all := lw_g (lw_at lw_m5 120 rfl) rfl
theorem q1145 : (Jvm.Cond.code ({ cls := "RoundingAuditor$Way", name := "add", desc := "(LRoundingAuditor$Ledger;DDLRoundingAuditor$Tape;)D" } : Jvm.MethodName) prog_24_method_2_code (7 : Nat) (Option.some Jvm.ClassFile.FieldType.double)) ∈ lw_all := lw_g (lw_at lw_m5 121 rfl) rfl
theorem q1154 : (Jvm.Cond.methodLink "RoundingAuditor$Way" (13 : Nat) ({ cls := "RoundingAuditor$Tape", name := "tell", desc := "(DDD)D" } : Jvm.MethodName)) ∈ lw_all := lw_g (lw_at lw_m5 130 rfl) rfl

/-! RoundingAuditor$Ordered -/
set_option maxRecDepth 100000
def RX10 : String := "RoundingAuditor$Ordered"
abbrev cX10_init : ByteArray := prog_18_method_1_code
def yX10_init : MethodName := ⟨RX10, "<init>", "()V"⟩
def dkwX10_init_0 : List UInt8 := [42, 183, 0, 3, 42, 16, 60, 188, 10, 181, 0, 9, 177]
abbrev dktX10_init_0 : List UInt8 := dkwX10_init_0 ++ []
theorem dksX10_init_0 : cX10_init.data.toList.drop 0 = dktX10_init_0 := by decide +kernel
theorem dX10_init_0 : decode cX10_init 0 = .ok (.aload_n 0, 1) := dk_42 (dk_at dksX10_init_0 0 rfl rfl)
theorem dX10_init_1 : decode cX10_init 1 = .ok (.invokespecial 3, 3) := dk_183 0 3 (dk_at dksX10_init_0 1 rfl rfl)
theorem dX10_init_4 : decode cX10_init 4 = .ok (.aload_n 0, 1) := dk_42 (dk_at dksX10_init_0 4 rfl rfl)
theorem dX10_init_5 : decode cX10_init 5 = .ok (.bipush 60, 2) := dk_16 60 (dk_at dksX10_init_0 5 rfl rfl)
theorem dX10_init_7 : decode cX10_init 7 = .ok (.newarray .int, 2) := dk_188_10 (dk_at dksX10_init_0 7 rfl rfl)
theorem dX10_init_9 : decode cX10_init 9 = .ok (.putfield 9, 3) := dk_181 0 9 (dk_at dksX10_init_0 9 rfl rfl)
theorem dX10_init_12 : decode cX10_init 12 = .ok (.return_, 1) := dk_177 (dk_at dksX10_init_0 12 rfl rfl)
abbrev cX10_sum : ByteArray := prog_18_method_3_code
def yX10_sum : MethodName := ⟨RX10, "sum", "(LRoundingAuditor$Ledger;LRoundingAuditor$Tape;)D"⟩
def dkwX10_sum_2 : List UInt8 := [182, 0, 29, 57, 4, 132, 6, 1, 167, 255, 226, 24, 4, 175]
abbrev dktX10_sum_2 : List UInt8 := dkwX10_sum_2 ++ []
def dkwX10_sum_1 : List UInt8 := [54, 6, 21, 6, 29, 162, 0, 30, 42, 43, 24, 4, 43, 42, 180, 0, 9, 21, 6, 46, 182, 0, 25, 44]
abbrev dktX10_sum_1 : List UInt8 := dkwX10_sum_1 ++ dktX10_sum_2
def dkwX10_sum_0 : List UInt8 := [43, 182, 0, 15, 62, 42, 43, 29, 182, 0, 21, 43, 42, 180, 0, 9, 3, 46, 182, 0, 25, 57, 4, 4]
abbrev dktX10_sum_0 : List UInt8 := dkwX10_sum_0 ++ dktX10_sum_1
theorem dksX10_sum_0 : cX10_sum.data.toList.drop 0 = dktX10_sum_0 := by decide +kernel
theorem dksX10_sum_1 : cX10_sum.data.toList.drop 24 = dktX10_sum_1 := dk_seg dksX10_sum_0 24 rfl rfl
theorem dksX10_sum_2 : cX10_sum.data.toList.drop 48 = dktX10_sum_2 := dk_seg dksX10_sum_1 24 rfl rfl
theorem dX10_sum_0 : decode cX10_sum 0 = .ok (.aload_n 1, 1) := dk_43 (dk_at dksX10_sum_0 0 rfl rfl)
theorem dX10_sum_1 : decode cX10_sum 1 = .ok (.invokevirtual 15, 3) := dk_182 0 15 (dk_at dksX10_sum_0 1 rfl rfl)
theorem dX10_sum_4 : decode cX10_sum 4 = .ok (.istore_n 3, 1) := dk_62 (dk_at dksX10_sum_0 4 rfl rfl)
theorem dX10_sum_5 : decode cX10_sum 5 = .ok (.aload_n 0, 1) := dk_42 (dk_at dksX10_sum_0 5 rfl rfl)
theorem dX10_sum_6 : decode cX10_sum 6 = .ok (.aload_n 1, 1) := dk_43 (dk_at dksX10_sum_0 6 rfl rfl)
theorem dX10_sum_7 : decode cX10_sum 7 = .ok (.iload_n 3, 1) := dk_29 (dk_at dksX10_sum_0 7 rfl rfl)
theorem dX10_sum_8 : decode cX10_sum 8 = .ok (.invokevirtual 21, 3) := dk_182 0 21 (dk_at dksX10_sum_0 8 rfl rfl)
theorem dX10_sum_11 : decode cX10_sum 11 = .ok (.aload_n 1, 1) := dk_43 (dk_at dksX10_sum_0 11 rfl rfl)
theorem dX10_sum_12 : decode cX10_sum 12 = .ok (.aload_n 0, 1) := dk_42 (dk_at dksX10_sum_0 12 rfl rfl)
theorem dX10_sum_13 : decode cX10_sum 13 = .ok (.getfield 9, 3) := dk_180 0 9 (dk_at dksX10_sum_0 13 rfl rfl)
theorem dX10_sum_16 : decode cX10_sum 16 = .ok (.iconst 0, 1) := dk_3 (dk_at dksX10_sum_0 16 rfl rfl)
theorem dX10_sum_17 : decode cX10_sum 17 = .ok (.iaload, 1) := dk_46 (dk_at dksX10_sum_0 17 rfl rfl)
theorem dX10_sum_18 : decode cX10_sum 18 = .ok (.invokevirtual 25, 3) := dk_182 0 25 (dk_at dksX10_sum_0 18 rfl rfl)
theorem dX10_sum_21 : decode cX10_sum 21 = .ok (.dstore 4, 2) := dk_57 4 (dk_at dksX10_sum_0 21 rfl rfl)
theorem dX10_sum_23 : decode cX10_sum 23 = .ok (.iconst 1, 1) := dk_4 (dk_at dksX10_sum_0 23 rfl rfl)
theorem dX10_sum_24 : decode cX10_sum 24 = .ok (.istore 6, 2) := dk_54 6 (dk_at dksX10_sum_1 0 rfl rfl)
theorem dX10_sum_26 : decode cX10_sum 26 = .ok (.iload 6, 2) := dk_21 6 (dk_at dksX10_sum_1 2 rfl rfl)
theorem dX10_sum_28 : decode cX10_sum 28 = .ok (.iload_n 3, 1) := dk_29 (dk_at dksX10_sum_1 4 rfl rfl)
theorem dX10_sum_29 : decode cX10_sum 29 = .ok (.if_icmp .ge 30, 3) := dk_162 0 30 (dk_at dksX10_sum_1 5 rfl rfl)
theorem dX10_sum_32 : decode cX10_sum 32 = .ok (.aload_n 0, 1) := dk_42 (dk_at dksX10_sum_1 8 rfl rfl)
theorem dX10_sum_33 : decode cX10_sum 33 = .ok (.aload_n 1, 1) := dk_43 (dk_at dksX10_sum_1 9 rfl rfl)
theorem dX10_sum_34 : decode cX10_sum 34 = .ok (.dload 4, 2) := dk_24 4 (dk_at dksX10_sum_1 10 rfl rfl)
theorem dX10_sum_36 : decode cX10_sum 36 = .ok (.aload_n 1, 1) := dk_43 (dk_at dksX10_sum_1 12 rfl rfl)
theorem dX10_sum_37 : decode cX10_sum 37 = .ok (.aload_n 0, 1) := dk_42 (dk_at dksX10_sum_1 13 rfl rfl)
theorem dX10_sum_38 : decode cX10_sum 38 = .ok (.getfield 9, 3) := dk_180 0 9 (dk_at dksX10_sum_1 14 rfl rfl)
theorem dX10_sum_41 : decode cX10_sum 41 = .ok (.iload 6, 2) := dk_21 6 (dk_at dksX10_sum_1 17 rfl rfl)
theorem dX10_sum_43 : decode cX10_sum 43 = .ok (.iaload, 1) := dk_46 (dk_at dksX10_sum_1 19 rfl rfl)
theorem dX10_sum_44 : decode cX10_sum 44 = .ok (.invokevirtual 25, 3) := dk_182 0 25 (dk_at dksX10_sum_1 20 rfl rfl)
theorem dX10_sum_47 : decode cX10_sum 47 = .ok (.aload_n 2, 1) := dk_44 (dk_at dksX10_sum_1 23 rfl rfl)
theorem dX10_sum_48 : decode cX10_sum 48 = .ok (.invokevirtual 29, 3) := dk_182 0 29 (dk_at dksX10_sum_2 0 rfl rfl)
theorem dX10_sum_51 : decode cX10_sum 51 = .ok (.dstore 4, 2) := dk_57 4 (dk_at dksX10_sum_2 3 rfl rfl)
theorem dX10_sum_53 : decode cX10_sum 53 = .ok (.iinc 6 1, 3) := dk_132 6 1 (dk_at dksX10_sum_2 5 rfl rfl)
theorem dX10_sum_56 : decode cX10_sum 56 = .ok (.goto (-30), 3) := dk_167 255 226 (dk_at dksX10_sum_2 8 rfl rfl)
theorem dX10_sum_59 : decode cX10_sum 59 = .ok (.dload 4, 2) := dk_24 4 (dk_at dksX10_sum_2 11 rfl rfl)
theorem dX10_sum_61 : decode cX10_sum 61 = .ok (.dreturn, 1) := dk_175 (dk_at dksX10_sum_2 13 rfl rfl)
theorem q91 : (Jvm.Cond.initialized "RoundingAuditor$Ordered") ∈ lw_all := lw_g (lw_at lw_m1 27 rfl) rfl
theorem q985 : (Jvm.Cond.instanceMethod ({ cls := "RoundingAuditor$Ordered", name := "<init>", desc := "()V" } : Jvm.MethodName)) ∈ lw_all := lw_g (lw_at lw_m4 201 rfl) rfl
theorem q986 : (Jvm.Cond.code ({ cls := "RoundingAuditor$Ordered", name := "<init>", desc := "()V" } : Jvm.MethodName) prog_18_method_1_code (1 : Nat) (Option.none : Option Jvm.ClassFile.FieldType)) ∈ lw_all := lw_g (lw_at lw_m4 202 rfl) rfl
theorem q987 : (Jvm.Cond.methodLinkNest "RoundingAuditor$Ordered" (3 : Nat) ({ cls := "RoundingAuditor$Way", name := "<init>", desc := "()V" } : Jvm.MethodName) "RoundingAuditor") ∈ lw_tbl := lw_at lw_m4 203 rfl
theorem q991 : (Jvm.Cond.fieldLink "RoundingAuditor$Ordered" (9 : Nat) "RoundingAuditor$Ordered" "order" "[I") ∈ lw_all := lw_g (lw_at lw_m4 207 rfl) rfl
theorem q1001 : (Jvm.Cond.soleField "RoundingAuditor$Ordered" "order") ∈ lw_all := lw_g (lw_at lw_m4 217 rfl) rfl
theorem q1159 : (Jvm.Cond.instanceMethod ({ cls := "RoundingAuditor$Ordered", name := "sum", desc := "(LRoundingAuditor$Ledger;LRoundingAuditor$Tape;)D" } : Jvm.MethodName)) ∈ lw_all := lw_g (lw_at lw_m5 135 rfl) rfl
theorem q1160 : (Jvm.Cond.code ({ cls := "RoundingAuditor$Ordered", name := "sum", desc := "(LRoundingAuditor$Ledger;LRoundingAuditor$Tape;)D" } : Jvm.MethodName) prog_18_method_3_code (7 : Nat) (Option.some Jvm.ClassFile.FieldType.double)) ∈ lw_all := lw_g (lw_at lw_m5 136 rfl) rfl
theorem q1161 : (Jvm.Cond.methodLink "RoundingAuditor$Ordered" (15 : Nat) ({ cls := "RoundingAuditor$Ledger", name := "length", desc := "()I" } : Jvm.MethodName)) ∈ lw_all := lw_g (lw_at lw_m5 137 rfl) rfl
theorem q1162 : (Jvm.Cond.methodLink "RoundingAuditor$Ordered" (21 : Nat) ({ cls := "RoundingAuditor$Ordered", name := "put", desc := "(LRoundingAuditor$Ledger;I)V" } : Jvm.MethodName)) ∈ lw_all := lw_g (lw_at lw_m5 138 rfl) rfl
theorem q1163 : (Jvm.Cond.declares ({ cls := "RoundingAuditor$Ordered", name := "put", desc := "(LRoundingAuditor$Ledger;I)V" } : Jvm.MethodName)) ∈ lw_tbl := lw_at lw_m5 139 rfl
theorem q1164 : (Jvm.Cond.sameMethod "RoundingAuditor$Ordered" "RoundingAuditor$Ordered" "put" "(LRoundingAuditor$Ledger;I)V") ∈ lw_all := lw_g (lw_at lw_m5 140 rfl) rfl
theorem q1209 : (Jvm.Cond.methodLink "RoundingAuditor$Ordered" (25 : Nat) ({ cls := "RoundingAuditor$Ledger", name := "at", desc := "(I)D" } : Jvm.MethodName)) ∈ lw_all := lw_g (lw_at lw_m5 185 rfl) rfl
theorem q1210 : (Jvm.Cond.methodLink "RoundingAuditor$Ordered" (29 : Nat) ({ cls := "RoundingAuditor$Ordered", name := "add", desc := "(LRoundingAuditor$Ledger;DDLRoundingAuditor$Tape;)D" } : Jvm.MethodName)) ∈ lw_all := lw_g (lw_at lw_m5 186 rfl) rfl
theorem q1211 : (Jvm.Cond.sameMethod "RoundingAuditor$Ordered" "RoundingAuditor$Way" "add" "(LRoundingAuditor$Ledger;DDLRoundingAuditor$Tape;)D") ∈ lw_all := lw_g (lw_at lw_m5 187 rfl) rfl

/-! RoundingAuditor$FromFirst -/
set_option maxRecDepth 100000
def RX11 : String := "RoundingAuditor$FromFirst"
def TX11 : u_T := fun k => match k with
  | _ => ("RoundingAuditor$Ordered", "order", "[I", true)
def tyX11 : Nat → FieldType := fun k => match k with
  | _ => .array .int
abbrev wsX110 : List Cond := u_ws RX11 TX11 1
theorem nmX11 : ∀ a, a < 1 → ∀ b, b < 1 → a ≠ b → (TX11 a).2.1 ≠ (TX11 b).2.1 := by decide +kernel
theorem tyX11_ok : ∀ k, k < 1 → parseFieldDescriptor (TX11 k).2.2.1 = some (tyX11 k) := by decide +kernel
abbrev cX11_init : ByteArray := prog_11_method_1_code
def yX11_init : MethodName := ⟨RX11, "<init>", "()V"⟩
theorem dX11_init_0 : decode cX11_init 0 = .ok (.aload_n 0, 1) := by decide +kernel
theorem dX11_init_1 : decode cX11_init 1 = .ok (.invokespecial 1, 3) := by decide +kernel
theorem dX11_init_4 : decode cX11_init 4 = .ok (.return_, 1) := by decide +kernel
abbrev cX11_put : ByteArray := prog_11_method_2_code
def yX11_put : MethodName := ⟨RX11, "put", "(LRoundingAuditor$Ledger;I)V"⟩
def dkwX11_put_0 : List UInt8 := [3, 62, 29, 28, 162, 0, 16, 42, 180, 0, 7, 29, 29, 79, 132, 3, 1, 167, 255, 241, 177]
abbrev dktX11_put_0 : List UInt8 := dkwX11_put_0 ++ []
theorem dksX11_put_0 : cX11_put.data.toList.drop 0 = dktX11_put_0 := by decide +kernel
theorem dX11_put_0 : decode cX11_put 0 = .ok (.iconst 0, 1) := dk_3 (dk_at dksX11_put_0 0 rfl rfl)
theorem dX11_put_1 : decode cX11_put 1 = .ok (.istore_n 3, 1) := dk_62 (dk_at dksX11_put_0 1 rfl rfl)
theorem dX11_put_2 : decode cX11_put 2 = .ok (.iload_n 3, 1) := dk_29 (dk_at dksX11_put_0 2 rfl rfl)
theorem dX11_put_3 : decode cX11_put 3 = .ok (.iload_n 2, 1) := dk_28 (dk_at dksX11_put_0 3 rfl rfl)
theorem dX11_put_4 : decode cX11_put 4 = .ok (.if_icmp .ge 16, 3) := dk_162 0 16 (dk_at dksX11_put_0 4 rfl rfl)
theorem dX11_put_7 : decode cX11_put 7 = .ok (.aload_n 0, 1) := dk_42 (dk_at dksX11_put_0 7 rfl rfl)
theorem dX11_put_8 : decode cX11_put 8 = .ok (.getfield 7, 3) := dk_180 0 7 (dk_at dksX11_put_0 8 rfl rfl)
theorem dX11_put_11 : decode cX11_put 11 = .ok (.iload_n 3, 1) := dk_29 (dk_at dksX11_put_0 11 rfl rfl)
theorem dX11_put_12 : decode cX11_put 12 = .ok (.iload_n 3, 1) := dk_29 (dk_at dksX11_put_0 12 rfl rfl)
theorem dX11_put_13 : decode cX11_put 13 = .ok (.iastore, 1) := dk_79 (dk_at dksX11_put_0 13 rfl rfl)
theorem dX11_put_14 : decode cX11_put 14 = .ok (.iinc 3 1, 3) := dk_132 3 1 (dk_at dksX11_put_0 14 rfl rfl)
theorem dX11_put_17 : decode cX11_put 17 = .ok (.goto (-15), 3) := dk_167 255 241 (dk_at dksX11_put_0 17 rfl rfl)
theorem dX11_put_20 : decode cX11_put 20 = .ok (.return_, 1) := dk_177 (dk_at dksX11_put_0 20 rfl rfl)
theorem q92 : (Jvm.Cond.initialized "RoundingAuditor$FromFirst") ∈ lw_all := lw_g (lw_at lw_m1 28 rfl) rfl
theorem q980 : (Jvm.Cond.instantiable "RoundingAuditor$FromFirst" (1 : Nat)) ∈ lw_all := lw_g (lw_at lw_m4 196 rfl) rfl
theorem q982 : (Jvm.Cond.instanceMethod ({ cls := "RoundingAuditor$FromFirst", name := "<init>", desc := "()V" } : Jvm.MethodName)) ∈ lw_all := lw_g (lw_at lw_m4 198 rfl) rfl
theorem q983 : (Jvm.Cond.code ({ cls := "RoundingAuditor$FromFirst", name := "<init>", desc := "()V" } : Jvm.MethodName) prog_11_method_1_code (1 : Nat) (Option.none : Option Jvm.ClassFile.FieldType)) ∈ lw_all := lw_g (lw_at lw_m4 199 rfl) rfl
theorem q984 : (Jvm.Cond.methodLinkNest "RoundingAuditor$FromFirst" (1 : Nat) ({ cls := "RoundingAuditor$Ordered", name := "<init>", desc := "()V" } : Jvm.MethodName) "RoundingAuditor") ∈ lw_tbl := lw_at lw_m4 200 rfl
theorem q992 : (Jvm.Cond.fieldLink "RoundingAuditor$FromFirst" (7 : Nat) "RoundingAuditor$FromFirst" "order" "[I") ∈ lw_all := lw_g (lw_at lw_m4 208 rfl) rfl
theorem q993 : (Jvm.Cond.sameField "RoundingAuditor$FromFirst" "RoundingAuditor$Ordered" "order" "[I") ∈ lw_all := lw_g (lw_at lw_m4 209 rfl) rfl
theorem q1000 : (Jvm.Cond.laysFinal "RoundingAuditor$FromFirst" "RoundingAuditor$Ordered" "order" "[I") ∈ lw_all := lw_g (lw_at lw_m4 216 rfl) rfl
theorem q1002 : (Jvm.Cond.superclass "RoundingAuditor$FromFirst" "RoundingAuditor$Ordered") ∈ lw_all := lw_g (lw_at lw_m4 218 rfl) rfl
theorem q1119 : (Jvm.Cond.selects "RoundingAuditor$FromFirst" ({ cls := "RoundingAuditor$Way", name := "total", desc := "(LRoundingAuditor$Ledger;LRoundingAuditor$Tape;)D" } : Jvm.MethodName) ({ cls := "RoundingAuditor$Way", name := "total", desc := "(LRoundingAuditor$Ledger;LRoundingAuditor$Tape;)D" } : Jvm.MethodName)) ∈ lw_all := lw_g (lw_at lw_m5 95 rfl) rfl
theorem q1170 : (Jvm.Cond.instanceMethod ({ cls := "RoundingAuditor$FromFirst", name := "put", desc := "(LRoundingAuditor$Ledger;I)V" } : Jvm.MethodName)) ∈ lw_all := lw_g (lw_at lw_m5 146 rfl) rfl
theorem q1171 : (Jvm.Cond.code ({ cls := "RoundingAuditor$FromFirst", name := "put", desc := "(LRoundingAuditor$Ledger;I)V" } : Jvm.MethodName) prog_11_method_2_code (4 : Nat) (Option.none : Option Jvm.ClassFile.FieldType)) ∈ lw_all := lw_g (lw_at lw_m5 147 rfl) rfl
theorem q1194 : (Jvm.Cond.selects "RoundingAuditor$FromFirst" ({ cls := "RoundingAuditor$Ordered", name := "put", desc := "(LRoundingAuditor$Ledger;I)V" } : Jvm.MethodName) ({ cls := "RoundingAuditor$FromFirst", name := "put", desc := "(LRoundingAuditor$Ledger;I)V" } : Jvm.MethodName)) ∈ lw_all := lw_g (lw_at lw_m5 170 rfl) rfl
theorem q1215 : (Jvm.Cond.selects "RoundingAuditor$FromFirst" ({ cls := "RoundingAuditor$Ordered", name := "add", desc := "(LRoundingAuditor$Ledger;DDLRoundingAuditor$Tape;)D" } : Jvm.MethodName) ({ cls := "RoundingAuditor$Way", name := "add", desc := "(LRoundingAuditor$Ledger;DDLRoundingAuditor$Tape;)D" } : Jvm.MethodName)) ∈ lw_all := lw_g (lw_at lw_m5 191 rfl) rfl
theorem q1264 : (Jvm.Cond.selects "RoundingAuditor$FromFirst" ({ cls := "RoundingAuditor$Way", name := "sum", desc := "(LRoundingAuditor$Ledger;LRoundingAuditor$Tape;)D" } : Jvm.MethodName) ({ cls := "RoundingAuditor$Ordered", name := "sum", desc := "(LRoundingAuditor$Ledger;LRoundingAuditor$Tape;)D" } : Jvm.MethodName)) ∈ lw_all := lw_g (lw_at lw_m6 0 rfl) rfl
theorem q1338 : (Jvm.Cond.selects "RoundingAuditor$FromFirst" ({ cls := "java/lang/Object", name := "getClass", desc := "()Ljava/lang/Class;" } : Jvm.MethodName) ({ cls := "java/lang/Object", name := "getClass", desc := "()Ljava/lang/Class;" } : Jvm.MethodName)) ∈ lw_all := lw_g (lw_at lw_m6 74 rfl) rfl
theorem q2050 : (Jvm.Cond.sameMethod "RoundingAuditor$FromFirst" "RoundingAuditor$FromFirst" "put" "(LRoundingAuditor$Ledger;I)V") ∈ lw_all := lw_g (lw_at lw_m9 66 rfl) rfl
theorem q2067 : (Jvm.Cond.castable "RoundingAuditor$FromFirst" "java/lang/Object") ∈ lw_tbl := lw_at lw_m9 83 rfl
theorem in_X11 : ∀ w ∈ wsX110, w ∈ lw_all := lw_in wsX110 [1000] (by decide +kernel) (by decide +kernel)

/-! RoundingAuditor$FromLast -/
set_option maxRecDepth 100000
def RX12 : String := "RoundingAuditor$FromLast"
def TX12 : u_T := fun k => match k with
  | _ => ("RoundingAuditor$Ordered", "order", "[I", true)
def tyX12 : Nat → FieldType := fun k => match k with
  | _ => .array .int
abbrev wsX120 : List Cond := u_ws RX12 TX12 1
theorem nmX12 : ∀ a, a < 1 → ∀ b, b < 1 → a ≠ b → (TX12 a).2.1 ≠ (TX12 b).2.1 := by decide +kernel
theorem tyX12_ok : ∀ k, k < 1 → parseFieldDescriptor (TX12 k).2.2.1 = some (tyX12 k) := by decide +kernel
abbrev cX12_init : ByteArray := prog_12_method_1_code
def yX12_init : MethodName := ⟨RX12, "<init>", "()V"⟩
theorem dX12_init_0 : decode cX12_init 0 = .ok (.aload_n 0, 1) := by decide +kernel
theorem dX12_init_1 : decode cX12_init 1 = .ok (.invokespecial 1, 3) := by decide +kernel
theorem dX12_init_4 : decode cX12_init 4 = .ok (.return_, 1) := by decide +kernel
abbrev cX12_put : ByteArray := prog_12_method_2_code
def yX12_put : MethodName := ⟨RX12, "put", "(LRoundingAuditor$Ledger;I)V"⟩
def dkwX12_put_1 : List UInt8 := [177]
abbrev dktX12_put_1 : List UInt8 := dkwX12_put_1 ++ []
def dkwX12_put_0 : List UInt8 := [3, 62, 29, 28, 162, 0, 20, 42, 180, 0, 7, 29, 28, 4, 100, 29, 100, 79, 132, 3, 1, 167, 255, 237]
abbrev dktX12_put_0 : List UInt8 := dkwX12_put_0 ++ dktX12_put_1
theorem dksX12_put_0 : cX12_put.data.toList.drop 0 = dktX12_put_0 := by decide +kernel
theorem dksX12_put_1 : cX12_put.data.toList.drop 24 = dktX12_put_1 := dk_seg dksX12_put_0 24 rfl rfl
theorem dX12_put_0 : decode cX12_put 0 = .ok (.iconst 0, 1) := dk_3 (dk_at dksX12_put_0 0 rfl rfl)
theorem dX12_put_1 : decode cX12_put 1 = .ok (.istore_n 3, 1) := dk_62 (dk_at dksX12_put_0 1 rfl rfl)
theorem dX12_put_2 : decode cX12_put 2 = .ok (.iload_n 3, 1) := dk_29 (dk_at dksX12_put_0 2 rfl rfl)
theorem dX12_put_3 : decode cX12_put 3 = .ok (.iload_n 2, 1) := dk_28 (dk_at dksX12_put_0 3 rfl rfl)
theorem dX12_put_4 : decode cX12_put 4 = .ok (.if_icmp .ge 20, 3) := dk_162 0 20 (dk_at dksX12_put_0 4 rfl rfl)
theorem dX12_put_7 : decode cX12_put 7 = .ok (.aload_n 0, 1) := dk_42 (dk_at dksX12_put_0 7 rfl rfl)
theorem dX12_put_8 : decode cX12_put 8 = .ok (.getfield 7, 3) := dk_180 0 7 (dk_at dksX12_put_0 8 rfl rfl)
theorem dX12_put_11 : decode cX12_put 11 = .ok (.iload_n 3, 1) := dk_29 (dk_at dksX12_put_0 11 rfl rfl)
theorem dX12_put_12 : decode cX12_put 12 = .ok (.iload_n 2, 1) := dk_28 (dk_at dksX12_put_0 12 rfl rfl)
theorem dX12_put_13 : decode cX12_put 13 = .ok (.iconst 1, 1) := dk_4 (dk_at dksX12_put_0 13 rfl rfl)
theorem dX12_put_14 : decode cX12_put 14 = .ok (.isub, 1) := dk_100 (dk_at dksX12_put_0 14 rfl rfl)
theorem dX12_put_15 : decode cX12_put 15 = .ok (.iload_n 3, 1) := dk_29 (dk_at dksX12_put_0 15 rfl rfl)
theorem dX12_put_16 : decode cX12_put 16 = .ok (.isub, 1) := dk_100 (dk_at dksX12_put_0 16 rfl rfl)
theorem dX12_put_17 : decode cX12_put 17 = .ok (.iastore, 1) := dk_79 (dk_at dksX12_put_0 17 rfl rfl)
theorem dX12_put_18 : decode cX12_put 18 = .ok (.iinc 3 1, 3) := dk_132 3 1 (dk_at dksX12_put_0 18 rfl rfl)
theorem dX12_put_21 : decode cX12_put 21 = .ok (.goto (-19), 3) := dk_167 255 237 (dk_at dksX12_put_0 21 rfl rfl)
theorem dX12_put_24 : decode cX12_put 24 = .ok (.return_, 1) := dk_177 (dk_at dksX12_put_1 0 rfl rfl)
theorem q93 : (Jvm.Cond.initialized "RoundingAuditor$FromLast") ∈ lw_all := lw_g (lw_at lw_m1 29 rfl) rfl
theorem q994 : (Jvm.Cond.fieldLink "RoundingAuditor$FromLast" (7 : Nat) "RoundingAuditor$FromLast" "order" "[I") ∈ lw_all := lw_g (lw_at lw_m4 210 rfl) rfl
theorem q995 : (Jvm.Cond.sameField "RoundingAuditor$FromLast" "RoundingAuditor$Ordered" "order" "[I") ∈ lw_all := lw_g (lw_at lw_m4 211 rfl) rfl
theorem q1004 : (Jvm.Cond.instantiable "RoundingAuditor$FromLast" (1 : Nat)) ∈ lw_all := lw_g (lw_at lw_m4 220 rfl) rfl
theorem q1006 : (Jvm.Cond.instanceMethod ({ cls := "RoundingAuditor$FromLast", name := "<init>", desc := "()V" } : Jvm.MethodName)) ∈ lw_all := lw_g (lw_at lw_m4 222 rfl) rfl
theorem q1007 : (Jvm.Cond.code ({ cls := "RoundingAuditor$FromLast", name := "<init>", desc := "()V" } : Jvm.MethodName) prog_12_method_1_code (1 : Nat) (Option.none : Option Jvm.ClassFile.FieldType)) ∈ lw_all := lw_g (lw_at lw_m4 223 rfl) rfl
theorem q1008 : (Jvm.Cond.methodLinkNest "RoundingAuditor$FromLast" (1 : Nat) ({ cls := "RoundingAuditor$Ordered", name := "<init>", desc := "()V" } : Jvm.MethodName) "RoundingAuditor") ∈ lw_tbl := lw_at lw_m4 224 rfl
theorem q1009 : (Jvm.Cond.laysFinal "RoundingAuditor$FromLast" "RoundingAuditor$Ordered" "order" "[I") ∈ lw_all := lw_g (lw_at lw_m4 225 rfl) rfl
theorem q1010 : (Jvm.Cond.superclass "RoundingAuditor$FromLast" "RoundingAuditor$Ordered") ∈ lw_all := lw_g (lw_at lw_m4 226 rfl) rfl
theorem q1120 : (Jvm.Cond.selects "RoundingAuditor$FromLast" ({ cls := "RoundingAuditor$Way", name := "total", desc := "(LRoundingAuditor$Ledger;LRoundingAuditor$Tape;)D" } : Jvm.MethodName) ({ cls := "RoundingAuditor$Way", name := "total", desc := "(LRoundingAuditor$Ledger;LRoundingAuditor$Tape;)D" } : Jvm.MethodName)) ∈ lw_all := lw_g (lw_at lw_m5 96 rfl) rfl
theorem q1195 : (Jvm.Cond.selects "RoundingAuditor$FromLast" ({ cls := "RoundingAuditor$Ordered", name := "put", desc := "(LRoundingAuditor$Ledger;I)V" } : Jvm.MethodName) ({ cls := "RoundingAuditor$FromLast", name := "put", desc := "(LRoundingAuditor$Ledger;I)V" } : Jvm.MethodName)) ∈ lw_all := lw_g (lw_at lw_m5 171 rfl) rfl
theorem q1196 : (Jvm.Cond.instanceMethod ({ cls := "RoundingAuditor$FromLast", name := "put", desc := "(LRoundingAuditor$Ledger;I)V" } : Jvm.MethodName)) ∈ lw_all := lw_g (lw_at lw_m5 172 rfl) rfl
theorem q1197 : (Jvm.Cond.code ({ cls := "RoundingAuditor$FromLast", name := "put", desc := "(LRoundingAuditor$Ledger;I)V" } : Jvm.MethodName) prog_12_method_2_code (4 : Nat) (Option.none : Option Jvm.ClassFile.FieldType)) ∈ lw_all := lw_g (lw_at lw_m5 173 rfl) rfl
theorem q1216 : (Jvm.Cond.selects "RoundingAuditor$FromLast" ({ cls := "RoundingAuditor$Ordered", name := "add", desc := "(LRoundingAuditor$Ledger;DDLRoundingAuditor$Tape;)D" } : Jvm.MethodName) ({ cls := "RoundingAuditor$Way", name := "add", desc := "(LRoundingAuditor$Ledger;DDLRoundingAuditor$Tape;)D" } : Jvm.MethodName)) ∈ lw_all := lw_g (lw_at lw_m5 192 rfl) rfl
theorem q1265 : (Jvm.Cond.selects "RoundingAuditor$FromLast" ({ cls := "RoundingAuditor$Way", name := "sum", desc := "(LRoundingAuditor$Ledger;LRoundingAuditor$Tape;)D" } : Jvm.MethodName) ({ cls := "RoundingAuditor$Ordered", name := "sum", desc := "(LRoundingAuditor$Ledger;LRoundingAuditor$Tape;)D" } : Jvm.MethodName)) ∈ lw_all := lw_g (lw_at lw_m6 1 rfl) rfl
theorem q1339 : (Jvm.Cond.selects "RoundingAuditor$FromLast" ({ cls := "java/lang/Object", name := "getClass", desc := "()Ljava/lang/Class;" } : Jvm.MethodName) ({ cls := "java/lang/Object", name := "getClass", desc := "()Ljava/lang/Class;" } : Jvm.MethodName)) ∈ lw_all := lw_g (lw_at lw_m6 75 rfl) rfl
theorem q2068 : (Jvm.Cond.castable "RoundingAuditor$FromLast" "java/lang/Object") ∈ lw_tbl := lw_at lw_m9 84 rfl
theorem in_X12 : ∀ w ∈ wsX120, w ∈ lw_all := lw_in wsX120 [1009] (by decide +kernel) (by decide +kernel)

/-! RoundingAuditor$Sorted -/
set_option maxRecDepth 100000
def RX13 : String := "RoundingAuditor$Sorted"
abbrev cX13_init : ByteArray := prog_22_method_1_code
def yX13_init : MethodName := ⟨RX13, "<init>", "()V"⟩
theorem dX13_init_0 : decode cX13_init 0 = .ok (.aload_n 0, 1) := by decide +kernel
theorem dX13_init_1 : decode cX13_init 1 = .ok (.invokespecial 1, 3) := by decide +kernel
theorem dX13_init_4 : decode cX13_init 4 = .ok (.return_, 1) := by decide +kernel
abbrev cX13_put : ByteArray := prog_22_method_3_code
def yX13_put : MethodName := ⟨RX13, "put", "(LRoundingAuditor$Ledger;I)V"⟩
def dkwX13_put_3 : List UInt8 := [180, 0, 11, 21, 5, 21, 4, 79, 132, 3, 1, 167, 255, 182, 177]
abbrev dktX13_put_3 : List UInt8 := dkwX13_put_3 ++ []
def dkwX13_put_2 : List UInt8 := [42, 180, 0, 11, 21, 5, 42, 180, 0, 11, 21, 5, 4, 100, 46, 79, 132, 5, 255, 167, 255, 213, 42]
abbrev dktX13_put_2 : List UInt8 := dkwX13_put_2 ++ dktX13_put_3
def dkwX13_put_1 : List UInt8 := [21, 5, 158, 0, 44, 42, 43, 21, 4, 42, 180, 0, 11, 21, 5, 4, 100, 46, 182, 0, 17, 153, 0, 25]
abbrev dktX13_put_1 : List UInt8 := dkwX13_put_1 ++ dktX13_put_2
def dkwX13_put_0 : List UInt8 := [42, 43, 28, 183, 0, 7, 4, 62, 29, 28, 162, 0, 75, 42, 180, 0, 11, 29, 46, 54, 4, 29, 54, 5]
abbrev dktX13_put_0 : List UInt8 := dkwX13_put_0 ++ dktX13_put_1
theorem dksX13_put_0 : cX13_put.data.toList.drop 0 = dktX13_put_0 := by decide +kernel
theorem dksX13_put_1 : cX13_put.data.toList.drop 24 = dktX13_put_1 := dk_seg dksX13_put_0 24 rfl rfl
theorem dksX13_put_2 : cX13_put.data.toList.drop 48 = dktX13_put_2 := dk_seg dksX13_put_1 24 rfl rfl
theorem dksX13_put_3 : cX13_put.data.toList.drop 71 = dktX13_put_3 := dk_seg dksX13_put_2 23 rfl rfl
theorem dX13_put_0 : decode cX13_put 0 = .ok (.aload_n 0, 1) := dk_42 (dk_at dksX13_put_0 0 rfl rfl)
theorem dX13_put_1 : decode cX13_put 1 = .ok (.aload_n 1, 1) := dk_43 (dk_at dksX13_put_0 1 rfl rfl)
theorem dX13_put_2 : decode cX13_put 2 = .ok (.iload_n 2, 1) := dk_28 (dk_at dksX13_put_0 2 rfl rfl)
theorem dX13_put_3 : decode cX13_put 3 = .ok (.invokespecial 7, 3) := dk_183 0 7 (dk_at dksX13_put_0 3 rfl rfl)
theorem dX13_put_6 : decode cX13_put 6 = .ok (.iconst 1, 1) := dk_4 (dk_at dksX13_put_0 6 rfl rfl)
theorem dX13_put_7 : decode cX13_put 7 = .ok (.istore_n 3, 1) := dk_62 (dk_at dksX13_put_0 7 rfl rfl)
theorem dX13_put_8 : decode cX13_put 8 = .ok (.iload_n 3, 1) := dk_29 (dk_at dksX13_put_0 8 rfl rfl)
theorem dX13_put_9 : decode cX13_put 9 = .ok (.iload_n 2, 1) := dk_28 (dk_at dksX13_put_0 9 rfl rfl)
theorem dX13_put_10 : decode cX13_put 10 = .ok (.if_icmp .ge 75, 3) := dk_162 0 75 (dk_at dksX13_put_0 10 rfl rfl)
theorem dX13_put_13 : decode cX13_put 13 = .ok (.aload_n 0, 1) := dk_42 (dk_at dksX13_put_0 13 rfl rfl)
theorem dX13_put_14 : decode cX13_put 14 = .ok (.getfield 11, 3) := dk_180 0 11 (dk_at dksX13_put_0 14 rfl rfl)
theorem dX13_put_17 : decode cX13_put 17 = .ok (.iload_n 3, 1) := dk_29 (dk_at dksX13_put_0 17 rfl rfl)
theorem dX13_put_18 : decode cX13_put 18 = .ok (.iaload, 1) := dk_46 (dk_at dksX13_put_0 18 rfl rfl)
theorem dX13_put_19 : decode cX13_put 19 = .ok (.istore 4, 2) := dk_54 4 (dk_at dksX13_put_0 19 rfl rfl)
theorem dX13_put_21 : decode cX13_put 21 = .ok (.iload_n 3, 1) := dk_29 (dk_at dksX13_put_0 21 rfl rfl)
theorem dX13_put_22 : decode cX13_put 22 = .ok (.istore 5, 2) := dk_54 5 (dk_at dksX13_put_0 22 rfl rfl)
theorem dX13_put_24 : decode cX13_put 24 = .ok (.iload 5, 2) := dk_21 5 (dk_at dksX13_put_1 0 rfl rfl)
theorem dX13_put_26 : decode cX13_put 26 = .ok (.ifCond .le 44, 3) := dk_158 0 44 (dk_at dksX13_put_1 2 rfl rfl)
theorem dX13_put_29 : decode cX13_put 29 = .ok (.aload_n 0, 1) := dk_42 (dk_at dksX13_put_1 5 rfl rfl)
theorem dX13_put_30 : decode cX13_put 30 = .ok (.aload_n 1, 1) := dk_43 (dk_at dksX13_put_1 6 rfl rfl)
theorem dX13_put_31 : decode cX13_put 31 = .ok (.iload 4, 2) := dk_21 4 (dk_at dksX13_put_1 7 rfl rfl)
theorem dX13_put_33 : decode cX13_put 33 = .ok (.aload_n 0, 1) := dk_42 (dk_at dksX13_put_1 9 rfl rfl)
theorem dX13_put_34 : decode cX13_put 34 = .ok (.getfield 11, 3) := dk_180 0 11 (dk_at dksX13_put_1 10 rfl rfl)
theorem dX13_put_37 : decode cX13_put 37 = .ok (.iload 5, 2) := dk_21 5 (dk_at dksX13_put_1 13 rfl rfl)
theorem dX13_put_39 : decode cX13_put 39 = .ok (.iconst 1, 1) := dk_4 (dk_at dksX13_put_1 15 rfl rfl)
theorem dX13_put_40 : decode cX13_put 40 = .ok (.isub, 1) := dk_100 (dk_at dksX13_put_1 16 rfl rfl)
theorem dX13_put_41 : decode cX13_put 41 = .ok (.iaload, 1) := dk_46 (dk_at dksX13_put_1 17 rfl rfl)
theorem dX13_put_42 : decode cX13_put 42 = .ok (.invokevirtual 17, 3) := dk_182 0 17 (dk_at dksX13_put_1 18 rfl rfl)
theorem dX13_put_45 : decode cX13_put 45 = .ok (.ifCond .eq 25, 3) := dk_153 0 25 (dk_at dksX13_put_1 21 rfl rfl)
theorem dX13_put_48 : decode cX13_put 48 = .ok (.aload_n 0, 1) := dk_42 (dk_at dksX13_put_2 0 rfl rfl)
theorem dX13_put_49 : decode cX13_put 49 = .ok (.getfield 11, 3) := dk_180 0 11 (dk_at dksX13_put_2 1 rfl rfl)
theorem dX13_put_52 : decode cX13_put 52 = .ok (.iload 5, 2) := dk_21 5 (dk_at dksX13_put_2 4 rfl rfl)
theorem dX13_put_54 : decode cX13_put 54 = .ok (.aload_n 0, 1) := dk_42 (dk_at dksX13_put_2 6 rfl rfl)
theorem dX13_put_55 : decode cX13_put 55 = .ok (.getfield 11, 3) := dk_180 0 11 (dk_at dksX13_put_2 7 rfl rfl)
theorem dX13_put_58 : decode cX13_put 58 = .ok (.iload 5, 2) := dk_21 5 (dk_at dksX13_put_2 10 rfl rfl)
theorem dX13_put_60 : decode cX13_put 60 = .ok (.iconst 1, 1) := dk_4 (dk_at dksX13_put_2 12 rfl rfl)
theorem dX13_put_61 : decode cX13_put 61 = .ok (.isub, 1) := dk_100 (dk_at dksX13_put_2 13 rfl rfl)
theorem dX13_put_62 : decode cX13_put 62 = .ok (.iaload, 1) := dk_46 (dk_at dksX13_put_2 14 rfl rfl)
theorem dX13_put_63 : decode cX13_put 63 = .ok (.iastore, 1) := dk_79 (dk_at dksX13_put_2 15 rfl rfl)
theorem dX13_put_64 : decode cX13_put 64 = .ok (.iinc 5 (-1), 3) := dk_132 5 255 (dk_at dksX13_put_2 16 rfl rfl)
theorem dX13_put_67 : decode cX13_put 67 = .ok (.goto (-43), 3) := dk_167 255 213 (dk_at dksX13_put_2 19 rfl rfl)
theorem dX13_put_70 : decode cX13_put 70 = .ok (.aload_n 0, 1) := dk_42 (dk_at dksX13_put_2 22 rfl rfl)
theorem dX13_put_71 : decode cX13_put 71 = .ok (.getfield 11, 3) := dk_180 0 11 (dk_at dksX13_put_3 0 rfl rfl)
theorem dX13_put_74 : decode cX13_put 74 = .ok (.iload 5, 2) := dk_21 5 (dk_at dksX13_put_3 3 rfl rfl)
theorem dX13_put_76 : decode cX13_put 76 = .ok (.iload 4, 2) := dk_21 4 (dk_at dksX13_put_3 5 rfl rfl)
theorem dX13_put_78 : decode cX13_put 78 = .ok (.iastore, 1) := dk_79 (dk_at dksX13_put_3 7 rfl rfl)
theorem dX13_put_79 : decode cX13_put 79 = .ok (.iinc 3 1, 3) := dk_132 3 1 (dk_at dksX13_put_3 8 rfl rfl)
theorem dX13_put_82 : decode cX13_put 82 = .ok (.goto (-74), 3) := dk_167 255 182 (dk_at dksX13_put_3 11 rfl rfl)
theorem dX13_put_85 : decode cX13_put 85 = .ok (.return_, 1) := dk_177 (dk_at dksX13_put_3 14 rfl rfl)
theorem q94 : (Jvm.Cond.initialized "RoundingAuditor$Sorted") ∈ lw_all := lw_g (lw_at lw_m1 30 rfl) rfl
theorem q998 : (Jvm.Cond.fieldLink "RoundingAuditor$Sorted" (11 : Nat) "RoundingAuditor$Sorted" "order" "[I") ∈ lw_all := lw_g (lw_at lw_m4 214 rfl) rfl
theorem q999 : (Jvm.Cond.sameField "RoundingAuditor$Sorted" "RoundingAuditor$Ordered" "order" "[I") ∈ lw_all := lw_g (lw_at lw_m4 215 rfl) rfl
theorem q1017 : (Jvm.Cond.instanceMethod ({ cls := "RoundingAuditor$Sorted", name := "<init>", desc := "()V" } : Jvm.MethodName)) ∈ lw_all := lw_g (lw_at lw_m4 233 rfl) rfl
theorem q1018 : (Jvm.Cond.code ({ cls := "RoundingAuditor$Sorted", name := "<init>", desc := "()V" } : Jvm.MethodName) prog_22_method_1_code (1 : Nat) (Option.none : Option Jvm.ClassFile.FieldType)) ∈ lw_all := lw_g (lw_at lw_m4 234 rfl) rfl
theorem q1019 : (Jvm.Cond.methodLinkNest "RoundingAuditor$Sorted" (1 : Nat) ({ cls := "RoundingAuditor$FromFirst", name := "<init>", desc := "()V" } : Jvm.MethodName) "RoundingAuditor") ∈ lw_tbl := lw_at lw_m4 235 rfl
theorem q1166 : (Jvm.Cond.instanceMethod ({ cls := "RoundingAuditor$Sorted", name := "put", desc := "(LRoundingAuditor$Ledger;I)V" } : Jvm.MethodName)) ∈ lw_all := lw_g (lw_at lw_m5 142 rfl) rfl
theorem q1167 : (Jvm.Cond.code ({ cls := "RoundingAuditor$Sorted", name := "put", desc := "(LRoundingAuditor$Ledger;I)V" } : Jvm.MethodName) prog_22_method_3_code (6 : Nat) (Option.none : Option Jvm.ClassFile.FieldType)) ∈ lw_all := lw_g (lw_at lw_m5 143 rfl) rfl
theorem q1168 : (Jvm.Cond.methodLink "RoundingAuditor$Sorted" (7 : Nat) ({ cls := "RoundingAuditor$FromFirst", name := "put", desc := "(LRoundingAuditor$Ledger;I)V" } : Jvm.MethodName)) ∈ lw_all := lw_g (lw_at lw_m5 144 rfl) rfl
theorem q1169 : (Jvm.Cond.superclass "RoundingAuditor$Sorted" "RoundingAuditor$FromFirst") ∈ lw_all := lw_g (lw_at lw_m5 145 rfl) rfl
theorem q1172 : (Jvm.Cond.methodLink "RoundingAuditor$Sorted" (17 : Nat) ({ cls := "RoundingAuditor$Sorted", name := "isAhead", desc := "(LRoundingAuditor$Ledger;II)Z" } : Jvm.MethodName)) ∈ lw_all := lw_g (lw_at lw_m5 148 rfl) rfl
theorem q1173 : (Jvm.Cond.declares ({ cls := "RoundingAuditor$Sorted", name := "isAhead", desc := "(LRoundingAuditor$Ledger;II)Z" } : Jvm.MethodName)) ∈ lw_tbl := lw_at lw_m5 149 rfl
theorem q1174 : (Jvm.Cond.sameMethod "RoundingAuditor$Sorted" "RoundingAuditor$Sorted" "isAhead" "(LRoundingAuditor$Ledger;II)Z") ∈ lw_all := lw_g (lw_at lw_m5 150 rfl) rfl

/-! RoundingAuditor$Rising -/
set_option maxRecDepth 100000
def RX14 : String := "RoundingAuditor$Rising"
def TX14 : u_T := fun k => match k with
  | _ => ("RoundingAuditor$Ordered", "order", "[I", true)
def tyX14 : Nat → FieldType := fun k => match k with
  | _ => .array .int
abbrev wsX140 : List Cond := u_ws RX14 TX14 1
theorem nmX14 : ∀ a, a < 1 → ∀ b, b < 1 → a ≠ b → (TX14 a).2.1 ≠ (TX14 b).2.1 := by decide +kernel
theorem tyX14_ok : ∀ k, k < 1 → parseFieldDescriptor (TX14 k).2.2.1 = some (tyX14 k) := by decide +kernel
abbrev cX14_init : ByteArray := prog_21_method_1_code
def yX14_init : MethodName := ⟨RX14, "<init>", "()V"⟩
theorem dX14_init_0 : decode cX14_init 0 = .ok (.aload_n 0, 1) := by decide +kernel
theorem dX14_init_1 : decode cX14_init 1 = .ok (.invokespecial 1, 3) := by decide +kernel
theorem dX14_init_4 : decode cX14_init 4 = .ok (.return_, 1) := by decide +kernel
abbrev cX14_isAhead : ByteArray := prog_21_method_2_code
def yX14_isAhead : MethodName := ⟨RX14, "isAhead", "(LRoundingAuditor$Ledger;II)Z"⟩
def dkwX14_isAhead_1 : List UInt8 := [3, 172]
abbrev dktX14_isAhead_1 : List UInt8 := dkwX14_isAhead_1 ++ []
def dkwX14_isAhead_0 : List UInt8 := [43, 28, 182, 0, 7, 184, 0, 13, 43, 29, 182, 0, 7, 184, 0, 13, 152, 156, 0, 7, 4, 167, 0, 4]
abbrev dktX14_isAhead_0 : List UInt8 := dkwX14_isAhead_0 ++ dktX14_isAhead_1
theorem dksX14_isAhead_0 : cX14_isAhead.data.toList.drop 0 = dktX14_isAhead_0 := by decide +kernel
theorem dksX14_isAhead_1 : cX14_isAhead.data.toList.drop 24 = dktX14_isAhead_1 := dk_seg dksX14_isAhead_0 24 rfl rfl
theorem dX14_isAhead_0 : decode cX14_isAhead 0 = .ok (.aload_n 1, 1) := dk_43 (dk_at dksX14_isAhead_0 0 rfl rfl)
theorem dX14_isAhead_1 : decode cX14_isAhead 1 = .ok (.iload_n 2, 1) := dk_28 (dk_at dksX14_isAhead_0 1 rfl rfl)
theorem dX14_isAhead_2 : decode cX14_isAhead 2 = .ok (.invokevirtual 7, 3) := dk_182 0 7 (dk_at dksX14_isAhead_0 2 rfl rfl)
theorem dX14_isAhead_5 : decode cX14_isAhead 5 = .ok (.invokestatic 13, 3) := dk_184 0 13 (dk_at dksX14_isAhead_0 5 rfl rfl)
theorem dX14_isAhead_8 : decode cX14_isAhead 8 = .ok (.aload_n 1, 1) := dk_43 (dk_at dksX14_isAhead_0 8 rfl rfl)
theorem dX14_isAhead_9 : decode cX14_isAhead 9 = .ok (.iload_n 3, 1) := dk_29 (dk_at dksX14_isAhead_0 9 rfl rfl)
theorem dX14_isAhead_10 : decode cX14_isAhead 10 = .ok (.invokevirtual 7, 3) := dk_182 0 7 (dk_at dksX14_isAhead_0 10 rfl rfl)
theorem dX14_isAhead_13 : decode cX14_isAhead 13 = .ok (.invokestatic 13, 3) := dk_184 0 13 (dk_at dksX14_isAhead_0 13 rfl rfl)
theorem dX14_isAhead_16 : decode cX14_isAhead 16 = .ok (.dcmp .g, 1) := dk_152 (dk_at dksX14_isAhead_0 16 rfl rfl)
theorem dX14_isAhead_17 : decode cX14_isAhead 17 = .ok (.ifCond .ge 7, 3) := dk_156 0 7 (dk_at dksX14_isAhead_0 17 rfl rfl)
theorem dX14_isAhead_20 : decode cX14_isAhead 20 = .ok (.iconst 1, 1) := dk_4 (dk_at dksX14_isAhead_0 20 rfl rfl)
theorem dX14_isAhead_21 : decode cX14_isAhead 21 = .ok (.goto 4, 3) := dk_167 0 4 (dk_at dksX14_isAhead_0 21 rfl rfl)
theorem dX14_isAhead_24 : decode cX14_isAhead 24 = .ok (.iconst 0, 1) := dk_3 (dk_at dksX14_isAhead_1 0 rfl rfl)
theorem dX14_isAhead_25 : decode cX14_isAhead 25 = .ok (.ireturn, 1) := dk_172 (dk_at dksX14_isAhead_1 1 rfl rfl)
theorem q95 : (Jvm.Cond.initialized "RoundingAuditor$Rising") ∈ lw_all := lw_g (lw_at lw_m1 31 rfl) rfl
theorem q1012 : (Jvm.Cond.instantiable "RoundingAuditor$Rising" (1 : Nat)) ∈ lw_all := lw_g (lw_at lw_m4 228 rfl) rfl
theorem q1014 : (Jvm.Cond.instanceMethod ({ cls := "RoundingAuditor$Rising", name := "<init>", desc := "()V" } : Jvm.MethodName)) ∈ lw_all := lw_g (lw_at lw_m4 230 rfl) rfl
theorem q1015 : (Jvm.Cond.code ({ cls := "RoundingAuditor$Rising", name := "<init>", desc := "()V" } : Jvm.MethodName) prog_21_method_1_code (1 : Nat) (Option.none : Option Jvm.ClassFile.FieldType)) ∈ lw_all := lw_g (lw_at lw_m4 231 rfl) rfl
theorem q1016 : (Jvm.Cond.methodLinkNest "RoundingAuditor$Rising" (1 : Nat) ({ cls := "RoundingAuditor$Sorted", name := "<init>", desc := "()V" } : Jvm.MethodName) "RoundingAuditor") ∈ lw_tbl := lw_at lw_m4 232 rfl
theorem q1020 : (Jvm.Cond.laysFinal "RoundingAuditor$Rising" "RoundingAuditor$Ordered" "order" "[I") ∈ lw_all := lw_g (lw_at lw_m4 236 rfl) rfl
theorem q1021 : (Jvm.Cond.superclass "RoundingAuditor$Rising" "RoundingAuditor$Sorted") ∈ lw_all := lw_g (lw_at lw_m4 237 rfl) rfl
theorem q1125 : (Jvm.Cond.selects "RoundingAuditor$Rising" ({ cls := "RoundingAuditor$Way", name := "total", desc := "(LRoundingAuditor$Ledger;LRoundingAuditor$Tape;)D" } : Jvm.MethodName) ({ cls := "RoundingAuditor$Way", name := "total", desc := "(LRoundingAuditor$Ledger;LRoundingAuditor$Tape;)D" } : Jvm.MethodName)) ∈ lw_all := lw_g (lw_at lw_m5 101 rfl) rfl
theorem q1187 : (Jvm.Cond.instanceMethod ({ cls := "RoundingAuditor$Rising", name := "isAhead", desc := "(LRoundingAuditor$Ledger;II)Z" } : Jvm.MethodName)) ∈ lw_all := lw_g (lw_at lw_m5 163 rfl) rfl
theorem q1188 : (Jvm.Cond.code ({ cls := "RoundingAuditor$Rising", name := "isAhead", desc := "(LRoundingAuditor$Ledger;II)Z" } : Jvm.MethodName) prog_21_method_2_code (4 : Nat) (Option.some Jvm.ClassFile.FieldType.boolean)) ∈ lw_all := lw_g (lw_at lw_m5 164 rfl) rfl
theorem q1189 : (Jvm.Cond.methodLink "RoundingAuditor$Rising" (7 : Nat) ({ cls := "RoundingAuditor$Ledger", name := "at", desc := "(I)D" } : Jvm.MethodName)) ∈ lw_all := lw_g (lw_at lw_m5 165 rfl) rfl
theorem q1190 : (Jvm.Cond.methodLink "RoundingAuditor$Rising" (13 : Nat) ({ cls := "java/lang/Math", name := "abs", desc := "(D)D" } : Jvm.MethodName)) ∈ lw_all := lw_g (lw_at lw_m5 166 rfl) rfl
theorem q1191 : (Jvm.Cond.selects "RoundingAuditor$Rising" ({ cls := "RoundingAuditor$Sorted", name := "isAhead", desc := "(LRoundingAuditor$Ledger;II)Z" } : Jvm.MethodName) ({ cls := "RoundingAuditor$Rising", name := "isAhead", desc := "(LRoundingAuditor$Ledger;II)Z" } : Jvm.MethodName)) ∈ lw_all := lw_g (lw_at lw_m5 167 rfl) rfl
theorem q1208 : (Jvm.Cond.selects "RoundingAuditor$Rising" ({ cls := "RoundingAuditor$Ordered", name := "put", desc := "(LRoundingAuditor$Ledger;I)V" } : Jvm.MethodName) ({ cls := "RoundingAuditor$Sorted", name := "put", desc := "(LRoundingAuditor$Ledger;I)V" } : Jvm.MethodName)) ∈ lw_all := lw_g (lw_at lw_m5 184 rfl) rfl
theorem q1222 : (Jvm.Cond.selects "RoundingAuditor$Rising" ({ cls := "RoundingAuditor$Ordered", name := "add", desc := "(LRoundingAuditor$Ledger;DDLRoundingAuditor$Tape;)D" } : Jvm.MethodName) ({ cls := "RoundingAuditor$Way", name := "add", desc := "(LRoundingAuditor$Ledger;DDLRoundingAuditor$Tape;)D" } : Jvm.MethodName)) ∈ lw_all := lw_g (lw_at lw_m5 198 rfl) rfl
theorem q1293 : (Jvm.Cond.selects "RoundingAuditor$Rising" ({ cls := "RoundingAuditor$Way", name := "sum", desc := "(LRoundingAuditor$Ledger;LRoundingAuditor$Tape;)D" } : Jvm.MethodName) ({ cls := "RoundingAuditor$Ordered", name := "sum", desc := "(LRoundingAuditor$Ledger;LRoundingAuditor$Tape;)D" } : Jvm.MethodName)) ∈ lw_all := lw_g (lw_at lw_m6 29 rfl) rfl
theorem q1346 : (Jvm.Cond.selects "RoundingAuditor$Rising" ({ cls := "java/lang/Object", name := "getClass", desc := "()Ljava/lang/Class;" } : Jvm.MethodName) ({ cls := "java/lang/Object", name := "getClass", desc := "()Ljava/lang/Class;" } : Jvm.MethodName)) ∈ lw_all := lw_g (lw_at lw_m6 82 rfl) rfl
theorem q2051 : (Jvm.Cond.sameMethod "RoundingAuditor$Rising" "RoundingAuditor$Rising" "isAhead" "(LRoundingAuditor$Ledger;II)Z") ∈ lw_all := lw_g (lw_at lw_m9 67 rfl) rfl
theorem q2069 : (Jvm.Cond.castable "RoundingAuditor$Rising" "java/lang/Object") ∈ lw_tbl := lw_at lw_m9 85 rfl
theorem in_X14 : ∀ w ∈ wsX140, w ∈ lw_all := lw_in wsX140 [1020] (by decide +kernel) (by decide +kernel)

/-! RoundingAuditor$Falling -/
set_option maxRecDepth 100000
def RX15 : String := "RoundingAuditor$Falling"
def TX15 : u_T := fun k => match k with
  | _ => ("RoundingAuditor$Ordered", "order", "[I", true)
def tyX15 : Nat → FieldType := fun k => match k with
  | _ => .array .int
abbrev wsX150 : List Cond := u_ws RX15 TX15 1
theorem nmX15 : ∀ a, a < 1 → ∀ b, b < 1 → a ≠ b → (TX15 a).2.1 ≠ (TX15 b).2.1 := by decide +kernel
theorem tyX15_ok : ∀ k, k < 1 → parseFieldDescriptor (TX15 k).2.2.1 = some (tyX15 k) := by decide +kernel
abbrev cX15_init : ByteArray := prog_9_method_1_code
def yX15_init : MethodName := ⟨RX15, "<init>", "()V"⟩
theorem dX15_init_0 : decode cX15_init 0 = .ok (.aload_n 0, 1) := by decide +kernel
theorem dX15_init_1 : decode cX15_init 1 = .ok (.invokespecial 1, 3) := by decide +kernel
theorem dX15_init_4 : decode cX15_init 4 = .ok (.return_, 1) := by decide +kernel
abbrev cX15_isAhead : ByteArray := prog_9_method_2_code
def yX15_isAhead : MethodName := ⟨RX15, "isAhead", "(LRoundingAuditor$Ledger;II)Z"⟩
def dkwX15_isAhead_0 : List UInt8 := [42, 43, 29, 28, 183, 0, 7, 172]
abbrev dktX15_isAhead_0 : List UInt8 := dkwX15_isAhead_0 ++ []
theorem dksX15_isAhead_0 : cX15_isAhead.data.toList.drop 0 = dktX15_isAhead_0 := by decide +kernel
theorem dX15_isAhead_0 : decode cX15_isAhead 0 = .ok (.aload_n 0, 1) := dk_42 (dk_at dksX15_isAhead_0 0 rfl rfl)
theorem dX15_isAhead_1 : decode cX15_isAhead 1 = .ok (.aload_n 1, 1) := dk_43 (dk_at dksX15_isAhead_0 1 rfl rfl)
theorem dX15_isAhead_2 : decode cX15_isAhead 2 = .ok (.iload_n 3, 1) := dk_29 (dk_at dksX15_isAhead_0 2 rfl rfl)
theorem dX15_isAhead_3 : decode cX15_isAhead 3 = .ok (.iload_n 2, 1) := dk_28 (dk_at dksX15_isAhead_0 3 rfl rfl)
theorem dX15_isAhead_4 : decode cX15_isAhead 4 = .ok (.invokespecial 7, 3) := dk_183 0 7 (dk_at dksX15_isAhead_0 4 rfl rfl)
theorem dX15_isAhead_7 : decode cX15_isAhead 7 = .ok (.ireturn, 1) := dk_172 (dk_at dksX15_isAhead_0 7 rfl rfl)
theorem q96 : (Jvm.Cond.initialized "RoundingAuditor$Falling") ∈ lw_all := lw_g (lw_at lw_m1 32 rfl) rfl
theorem q1023 : (Jvm.Cond.instantiable "RoundingAuditor$Falling" (1 : Nat)) ∈ lw_all := lw_g (lw_at lw_m4 239 rfl) rfl
theorem q1025 : (Jvm.Cond.instanceMethod ({ cls := "RoundingAuditor$Falling", name := "<init>", desc := "()V" } : Jvm.MethodName)) ∈ lw_all := lw_g (lw_at lw_m5 1 rfl) rfl
theorem q1026 : (Jvm.Cond.code ({ cls := "RoundingAuditor$Falling", name := "<init>", desc := "()V" } : Jvm.MethodName) prog_9_method_1_code (1 : Nat) (Option.none : Option Jvm.ClassFile.FieldType)) ∈ lw_all := lw_g (lw_at lw_m5 2 rfl) rfl
theorem q1027 : (Jvm.Cond.methodLinkNest "RoundingAuditor$Falling" (1 : Nat) ({ cls := "RoundingAuditor$Rising", name := "<init>", desc := "()V" } : Jvm.MethodName) "RoundingAuditor") ∈ lw_tbl := lw_at lw_m5 3 rfl
theorem q1028 : (Jvm.Cond.laysFinal "RoundingAuditor$Falling" "RoundingAuditor$Ordered" "order" "[I") ∈ lw_all := lw_g (lw_at lw_m5 4 rfl) rfl
theorem q1029 : (Jvm.Cond.superclass "RoundingAuditor$Falling" "RoundingAuditor$Rising") ∈ lw_all := lw_g (lw_at lw_m5 5 rfl) rfl
theorem q1118 : (Jvm.Cond.selects "RoundingAuditor$Falling" ({ cls := "RoundingAuditor$Way", name := "total", desc := "(LRoundingAuditor$Ledger;LRoundingAuditor$Tape;)D" } : Jvm.MethodName) ({ cls := "RoundingAuditor$Way", name := "total", desc := "(LRoundingAuditor$Ledger;LRoundingAuditor$Tape;)D" } : Jvm.MethodName)) ∈ lw_all := lw_g (lw_at lw_m5 94 rfl) rfl
theorem q1183 : (Jvm.Cond.selects "RoundingAuditor$Falling" ({ cls := "RoundingAuditor$Sorted", name := "isAhead", desc := "(LRoundingAuditor$Ledger;II)Z" } : Jvm.MethodName) ({ cls := "RoundingAuditor$Falling", name := "isAhead", desc := "(LRoundingAuditor$Ledger;II)Z" } : Jvm.MethodName)) ∈ lw_all := lw_g (lw_at lw_m5 159 rfl) rfl
theorem q1184 : (Jvm.Cond.instanceMethod ({ cls := "RoundingAuditor$Falling", name := "isAhead", desc := "(LRoundingAuditor$Ledger;II)Z" } : Jvm.MethodName)) ∈ lw_all := lw_g (lw_at lw_m5 160 rfl) rfl
theorem q1185 : (Jvm.Cond.code ({ cls := "RoundingAuditor$Falling", name := "isAhead", desc := "(LRoundingAuditor$Ledger;II)Z" } : Jvm.MethodName) prog_9_method_2_code (4 : Nat) (Option.some Jvm.ClassFile.FieldType.boolean)) ∈ lw_all := lw_g (lw_at lw_m5 161 rfl) rfl
theorem q1186 : (Jvm.Cond.methodLink "RoundingAuditor$Falling" (7 : Nat) ({ cls := "RoundingAuditor$Rising", name := "isAhead", desc := "(LRoundingAuditor$Ledger;II)Z" } : Jvm.MethodName)) ∈ lw_all := lw_g (lw_at lw_m5 162 rfl) rfl
theorem q1193 : (Jvm.Cond.selects "RoundingAuditor$Falling" ({ cls := "RoundingAuditor$Ordered", name := "put", desc := "(LRoundingAuditor$Ledger;I)V" } : Jvm.MethodName) ({ cls := "RoundingAuditor$Sorted", name := "put", desc := "(LRoundingAuditor$Ledger;I)V" } : Jvm.MethodName)) ∈ lw_all := lw_g (lw_at lw_m5 169 rfl) rfl
theorem q1214 : (Jvm.Cond.selects "RoundingAuditor$Falling" ({ cls := "RoundingAuditor$Ordered", name := "add", desc := "(LRoundingAuditor$Ledger;DDLRoundingAuditor$Tape;)D" } : Jvm.MethodName) ({ cls := "RoundingAuditor$Way", name := "add", desc := "(LRoundingAuditor$Ledger;DDLRoundingAuditor$Tape;)D" } : Jvm.MethodName)) ∈ lw_all := lw_g (lw_at lw_m5 190 rfl) rfl
theorem q1263 : (Jvm.Cond.selects "RoundingAuditor$Falling" ({ cls := "RoundingAuditor$Way", name := "sum", desc := "(LRoundingAuditor$Ledger;LRoundingAuditor$Tape;)D" } : Jvm.MethodName) ({ cls := "RoundingAuditor$Ordered", name := "sum", desc := "(LRoundingAuditor$Ledger;LRoundingAuditor$Tape;)D" } : Jvm.MethodName)) ∈ lw_all := lw_g (lw_at lw_m5 239 rfl) rfl
theorem q1336 : (Jvm.Cond.selects "RoundingAuditor$Falling" ({ cls := "java/lang/Object", name := "getClass", desc := "()Ljava/lang/Class;" } : Jvm.MethodName) ({ cls := "java/lang/Object", name := "getClass", desc := "()Ljava/lang/Class;" } : Jvm.MethodName)) ∈ lw_all := lw_g (lw_at lw_m6 72 rfl) rfl
theorem q2070 : (Jvm.Cond.castable "RoundingAuditor$Falling" "java/lang/Object") ∈ lw_tbl := lw_at lw_m9 86 rfl
theorem in_X15 : ∀ w ∈ wsX150, w ∈ lw_all := lw_in wsX150 [1028] (by decide +kernel) (by decide +kernel)

/-! RoundingAuditor$ByAccount -/
set_option maxRecDepth 100000
def RX16 : String := "RoundingAuditor$ByAccount"
def TX16 : u_T := fun k => match k with
  | _ => ("RoundingAuditor$Ordered", "order", "[I", true)
def tyX16 : Nat → FieldType := fun k => match k with
  | _ => .array .int
abbrev wsX160 : List Cond := u_ws RX16 TX16 1
theorem nmX16 : ∀ a, a < 1 → ∀ b, b < 1 → a ≠ b → (TX16 a).2.1 ≠ (TX16 b).2.1 := by decide +kernel
theorem tyX16_ok : ∀ k, k < 1 → parseFieldDescriptor (TX16 k).2.2.1 = some (tyX16 k) := by decide +kernel
abbrev cX16_init : ByteArray := prog_4_method_1_code
def yX16_init : MethodName := ⟨RX16, "<init>", "()V"⟩
theorem dX16_init_0 : decode cX16_init 0 = .ok (.aload_n 0, 1) := by decide +kernel
theorem dX16_init_1 : decode cX16_init 1 = .ok (.invokespecial 1, 3) := by decide +kernel
theorem dX16_init_4 : decode cX16_init 4 = .ok (.return_, 1) := by decide +kernel
abbrev cX16_isAhead : ByteArray := prog_4_method_2_code
def yX16_isAhead : MethodName := ⟨RX16, "isAhead", "(LRoundingAuditor$Ledger;II)Z"⟩
def dkwX16_isAhead_0 : List UInt8 := [43, 28, 182, 0, 7, 43, 29, 182, 0, 7, 162, 0, 7, 4, 167, 0, 4, 3, 172]
abbrev dktX16_isAhead_0 : List UInt8 := dkwX16_isAhead_0 ++ []
theorem dksX16_isAhead_0 : cX16_isAhead.data.toList.drop 0 = dktX16_isAhead_0 := by decide +kernel
theorem dX16_isAhead_0 : decode cX16_isAhead 0 = .ok (.aload_n 1, 1) := dk_43 (dk_at dksX16_isAhead_0 0 rfl rfl)
theorem dX16_isAhead_1 : decode cX16_isAhead 1 = .ok (.iload_n 2, 1) := dk_28 (dk_at dksX16_isAhead_0 1 rfl rfl)
theorem dX16_isAhead_2 : decode cX16_isAhead 2 = .ok (.invokevirtual 7, 3) := dk_182 0 7 (dk_at dksX16_isAhead_0 2 rfl rfl)
theorem dX16_isAhead_5 : decode cX16_isAhead 5 = .ok (.aload_n 1, 1) := dk_43 (dk_at dksX16_isAhead_0 5 rfl rfl)
theorem dX16_isAhead_6 : decode cX16_isAhead 6 = .ok (.iload_n 3, 1) := dk_29 (dk_at dksX16_isAhead_0 6 rfl rfl)
theorem dX16_isAhead_7 : decode cX16_isAhead 7 = .ok (.invokevirtual 7, 3) := dk_182 0 7 (dk_at dksX16_isAhead_0 7 rfl rfl)
theorem dX16_isAhead_10 : decode cX16_isAhead 10 = .ok (.if_icmp .ge 7, 3) := dk_162 0 7 (dk_at dksX16_isAhead_0 10 rfl rfl)
theorem dX16_isAhead_13 : decode cX16_isAhead 13 = .ok (.iconst 1, 1) := dk_4 (dk_at dksX16_isAhead_0 13 rfl rfl)
theorem dX16_isAhead_14 : decode cX16_isAhead 14 = .ok (.goto 4, 3) := dk_167 0 4 (dk_at dksX16_isAhead_0 14 rfl rfl)
theorem dX16_isAhead_17 : decode cX16_isAhead 17 = .ok (.iconst 0, 1) := dk_3 (dk_at dksX16_isAhead_0 17 rfl rfl)
theorem dX16_isAhead_18 : decode cX16_isAhead 18 = .ok (.ireturn, 1) := dk_172 (dk_at dksX16_isAhead_0 18 rfl rfl)
theorem q97 : (Jvm.Cond.initialized "RoundingAuditor$ByAccount") ∈ lw_all := lw_g (lw_at lw_m1 33 rfl) rfl
theorem q1031 : (Jvm.Cond.instantiable "RoundingAuditor$ByAccount" (1 : Nat)) ∈ lw_all := lw_g (lw_at lw_m5 7 rfl) rfl
theorem q1033 : (Jvm.Cond.instanceMethod ({ cls := "RoundingAuditor$ByAccount", name := "<init>", desc := "()V" } : Jvm.MethodName)) ∈ lw_all := lw_g (lw_at lw_m5 9 rfl) rfl
theorem q1034 : (Jvm.Cond.code ({ cls := "RoundingAuditor$ByAccount", name := "<init>", desc := "()V" } : Jvm.MethodName) prog_4_method_1_code (1 : Nat) (Option.none : Option Jvm.ClassFile.FieldType)) ∈ lw_all := lw_g (lw_at lw_m5 10 rfl) rfl
theorem q1035 : (Jvm.Cond.methodLinkNest "RoundingAuditor$ByAccount" (1 : Nat) ({ cls := "RoundingAuditor$Sorted", name := "<init>", desc := "()V" } : Jvm.MethodName) "RoundingAuditor") ∈ lw_tbl := lw_at lw_m5 11 rfl
theorem q1036 : (Jvm.Cond.laysFinal "RoundingAuditor$ByAccount" "RoundingAuditor$Ordered" "order" "[I") ∈ lw_all := lw_g (lw_at lw_m5 12 rfl) rfl
theorem q1037 : (Jvm.Cond.superclass "RoundingAuditor$ByAccount" "RoundingAuditor$Sorted") ∈ lw_all := lw_g (lw_at lw_m5 13 rfl) rfl
theorem q1114 : (Jvm.Cond.selects "RoundingAuditor$ByAccount" ({ cls := "RoundingAuditor$Way", name := "total", desc := "(LRoundingAuditor$Ledger;LRoundingAuditor$Tape;)D" } : Jvm.MethodName) ({ cls := "RoundingAuditor$Way", name := "total", desc := "(LRoundingAuditor$Ledger;LRoundingAuditor$Tape;)D" } : Jvm.MethodName)) ∈ lw_all := lw_g (lw_at lw_m5 90 rfl) rfl
theorem q1158 : (Jvm.Cond.selects "RoundingAuditor$ByAccount" ({ cls := "RoundingAuditor$Way", name := "sum", desc := "(LRoundingAuditor$Ledger;LRoundingAuditor$Tape;)D" } : Jvm.MethodName) ({ cls := "RoundingAuditor$Ordered", name := "sum", desc := "(LRoundingAuditor$Ledger;LRoundingAuditor$Tape;)D" } : Jvm.MethodName)) ∈ lw_all := lw_g (lw_at lw_m5 134 rfl) rfl
theorem q1165 : (Jvm.Cond.selects "RoundingAuditor$ByAccount" ({ cls := "RoundingAuditor$Ordered", name := "put", desc := "(LRoundingAuditor$Ledger;I)V" } : Jvm.MethodName) ({ cls := "RoundingAuditor$Sorted", name := "put", desc := "(LRoundingAuditor$Ledger;I)V" } : Jvm.MethodName)) ∈ lw_all := lw_g (lw_at lw_m5 141 rfl) rfl
theorem q1175 : (Jvm.Cond.selects "RoundingAuditor$ByAccount" ({ cls := "RoundingAuditor$Sorted", name := "isAhead", desc := "(LRoundingAuditor$Ledger;II)Z" } : Jvm.MethodName) ({ cls := "RoundingAuditor$ByAccount", name := "isAhead", desc := "(LRoundingAuditor$Ledger;II)Z" } : Jvm.MethodName)) ∈ lw_all := lw_g (lw_at lw_m5 151 rfl) rfl
theorem q1176 : (Jvm.Cond.instanceMethod ({ cls := "RoundingAuditor$ByAccount", name := "isAhead", desc := "(LRoundingAuditor$Ledger;II)Z" } : Jvm.MethodName)) ∈ lw_all := lw_g (lw_at lw_m5 152 rfl) rfl
theorem q1177 : (Jvm.Cond.code ({ cls := "RoundingAuditor$ByAccount", name := "isAhead", desc := "(LRoundingAuditor$Ledger;II)Z" } : Jvm.MethodName) prog_4_method_2_code (4 : Nat) (Option.some Jvm.ClassFile.FieldType.boolean)) ∈ lw_all := lw_g (lw_at lw_m5 153 rfl) rfl
theorem q1178 : (Jvm.Cond.methodLink "RoundingAuditor$ByAccount" (7 : Nat) ({ cls := "RoundingAuditor$Ledger", name := "account", desc := "(I)I" } : Jvm.MethodName)) ∈ lw_all := lw_g (lw_at lw_m5 154 rfl) rfl
theorem q1212 : (Jvm.Cond.selects "RoundingAuditor$ByAccount" ({ cls := "RoundingAuditor$Ordered", name := "add", desc := "(LRoundingAuditor$Ledger;DDLRoundingAuditor$Tape;)D" } : Jvm.MethodName) ({ cls := "RoundingAuditor$Way", name := "add", desc := "(LRoundingAuditor$Ledger;DDLRoundingAuditor$Tape;)D" } : Jvm.MethodName)) ∈ lw_all := lw_g (lw_at lw_m5 188 rfl) rfl
theorem q1331 : (Jvm.Cond.selects "RoundingAuditor$ByAccount" ({ cls := "java/lang/Object", name := "getClass", desc := "()Ljava/lang/Class;" } : Jvm.MethodName) ({ cls := "java/lang/Object", name := "getClass", desc := "()Ljava/lang/Class;" } : Jvm.MethodName)) ∈ lw_all := lw_g (lw_at lw_m6 67 rfl) rfl
theorem q2071 : (Jvm.Cond.castable "RoundingAuditor$ByAccount" "java/lang/Object") ∈ lw_tbl := lw_at lw_m9 87 rfl
theorem in_X16 : ∀ w ∈ wsX160, w ∈ lw_all := lw_in wsX160 [1036] (by decide +kernel) (by decide +kernel)

/-! RoundingAuditor$ByDay -/
set_option maxRecDepth 100000
def RX17 : String := "RoundingAuditor$ByDay"
def TX17 : u_T := fun k => match k with
  | _ => ("RoundingAuditor$Ordered", "order", "[I", true)
def tyX17 : Nat → FieldType := fun k => match k with
  | _ => .array .int
abbrev wsX170 : List Cond := u_ws RX17 TX17 1
theorem nmX17 : ∀ a, a < 1 → ∀ b, b < 1 → a ≠ b → (TX17 a).2.1 ≠ (TX17 b).2.1 := by decide +kernel
theorem tyX17_ok : ∀ k, k < 1 → parseFieldDescriptor (TX17 k).2.2.1 = some (tyX17 k) := by decide +kernel
abbrev cX17_init : ByteArray := prog_5_method_1_code
def yX17_init : MethodName := ⟨RX17, "<init>", "()V"⟩
theorem dX17_init_0 : decode cX17_init 0 = .ok (.aload_n 0, 1) := by decide +kernel
theorem dX17_init_1 : decode cX17_init 1 = .ok (.invokespecial 1, 3) := by decide +kernel
theorem dX17_init_4 : decode cX17_init 4 = .ok (.return_, 1) := by decide +kernel
abbrev cX17_isAhead : ByteArray := prog_5_method_2_code
def yX17_isAhead : MethodName := ⟨RX17, "isAhead", "(LRoundingAuditor$Ledger;II)Z"⟩
def dkwX17_isAhead_0 : List UInt8 := [43, 28, 182, 0, 7, 43, 29, 182, 0, 7, 162, 0, 7, 4, 167, 0, 4, 3, 172]
abbrev dktX17_isAhead_0 : List UInt8 := dkwX17_isAhead_0 ++ []
theorem dksX17_isAhead_0 : cX17_isAhead.data.toList.drop 0 = dktX17_isAhead_0 := by decide +kernel
theorem dX17_isAhead_0 : decode cX17_isAhead 0 = .ok (.aload_n 1, 1) := dk_43 (dk_at dksX17_isAhead_0 0 rfl rfl)
theorem dX17_isAhead_1 : decode cX17_isAhead 1 = .ok (.iload_n 2, 1) := dk_28 (dk_at dksX17_isAhead_0 1 rfl rfl)
theorem dX17_isAhead_2 : decode cX17_isAhead 2 = .ok (.invokevirtual 7, 3) := dk_182 0 7 (dk_at dksX17_isAhead_0 2 rfl rfl)
theorem dX17_isAhead_5 : decode cX17_isAhead 5 = .ok (.aload_n 1, 1) := dk_43 (dk_at dksX17_isAhead_0 5 rfl rfl)
theorem dX17_isAhead_6 : decode cX17_isAhead 6 = .ok (.iload_n 3, 1) := dk_29 (dk_at dksX17_isAhead_0 6 rfl rfl)
theorem dX17_isAhead_7 : decode cX17_isAhead 7 = .ok (.invokevirtual 7, 3) := dk_182 0 7 (dk_at dksX17_isAhead_0 7 rfl rfl)
theorem dX17_isAhead_10 : decode cX17_isAhead 10 = .ok (.if_icmp .ge 7, 3) := dk_162 0 7 (dk_at dksX17_isAhead_0 10 rfl rfl)
theorem dX17_isAhead_13 : decode cX17_isAhead 13 = .ok (.iconst 1, 1) := dk_4 (dk_at dksX17_isAhead_0 13 rfl rfl)
theorem dX17_isAhead_14 : decode cX17_isAhead 14 = .ok (.goto 4, 3) := dk_167 0 4 (dk_at dksX17_isAhead_0 14 rfl rfl)
theorem dX17_isAhead_17 : decode cX17_isAhead 17 = .ok (.iconst 0, 1) := dk_3 (dk_at dksX17_isAhead_0 17 rfl rfl)
theorem dX17_isAhead_18 : decode cX17_isAhead 18 = .ok (.ireturn, 1) := dk_172 (dk_at dksX17_isAhead_0 18 rfl rfl)
theorem q98 : (Jvm.Cond.initialized "RoundingAuditor$ByDay") ∈ lw_all := lw_g (lw_at lw_m1 34 rfl) rfl
theorem q1039 : (Jvm.Cond.instantiable "RoundingAuditor$ByDay" (1 : Nat)) ∈ lw_all := lw_g (lw_at lw_m5 15 rfl) rfl
theorem q1041 : (Jvm.Cond.instanceMethod ({ cls := "RoundingAuditor$ByDay", name := "<init>", desc := "()V" } : Jvm.MethodName)) ∈ lw_all := lw_g (lw_at lw_m5 17 rfl) rfl
theorem q1042 : (Jvm.Cond.code ({ cls := "RoundingAuditor$ByDay", name := "<init>", desc := "()V" } : Jvm.MethodName) prog_5_method_1_code (1 : Nat) (Option.none : Option Jvm.ClassFile.FieldType)) ∈ lw_all := lw_g (lw_at lw_m5 18 rfl) rfl
theorem q1043 : (Jvm.Cond.methodLinkNest "RoundingAuditor$ByDay" (1 : Nat) ({ cls := "RoundingAuditor$Sorted", name := "<init>", desc := "()V" } : Jvm.MethodName) "RoundingAuditor") ∈ lw_tbl := lw_at lw_m5 19 rfl
theorem q1044 : (Jvm.Cond.laysFinal "RoundingAuditor$ByDay" "RoundingAuditor$Ordered" "order" "[I") ∈ lw_all := lw_g (lw_at lw_m5 20 rfl) rfl
theorem q1045 : (Jvm.Cond.superclass "RoundingAuditor$ByDay" "RoundingAuditor$Sorted") ∈ lw_all := lw_g (lw_at lw_m5 21 rfl) rfl
theorem q1115 : (Jvm.Cond.selects "RoundingAuditor$ByDay" ({ cls := "RoundingAuditor$Way", name := "total", desc := "(LRoundingAuditor$Ledger;LRoundingAuditor$Tape;)D" } : Jvm.MethodName) ({ cls := "RoundingAuditor$Way", name := "total", desc := "(LRoundingAuditor$Ledger;LRoundingAuditor$Tape;)D" } : Jvm.MethodName)) ∈ lw_all := lw_g (lw_at lw_m5 91 rfl) rfl
theorem q1179 : (Jvm.Cond.selects "RoundingAuditor$ByDay" ({ cls := "RoundingAuditor$Sorted", name := "isAhead", desc := "(LRoundingAuditor$Ledger;II)Z" } : Jvm.MethodName) ({ cls := "RoundingAuditor$ByDay", name := "isAhead", desc := "(LRoundingAuditor$Ledger;II)Z" } : Jvm.MethodName)) ∈ lw_all := lw_g (lw_at lw_m5 155 rfl) rfl
theorem q1180 : (Jvm.Cond.instanceMethod ({ cls := "RoundingAuditor$ByDay", name := "isAhead", desc := "(LRoundingAuditor$Ledger;II)Z" } : Jvm.MethodName)) ∈ lw_all := lw_g (lw_at lw_m5 156 rfl) rfl
theorem q1181 : (Jvm.Cond.code ({ cls := "RoundingAuditor$ByDay", name := "isAhead", desc := "(LRoundingAuditor$Ledger;II)Z" } : Jvm.MethodName) prog_5_method_2_code (4 : Nat) (Option.some Jvm.ClassFile.FieldType.boolean)) ∈ lw_all := lw_g (lw_at lw_m5 157 rfl) rfl
theorem q1182 : (Jvm.Cond.methodLink "RoundingAuditor$ByDay" (7 : Nat) ({ cls := "RoundingAuditor$Ledger", name := "day", desc := "(I)I" } : Jvm.MethodName)) ∈ lw_all := lw_g (lw_at lw_m5 158 rfl) rfl
theorem q1192 : (Jvm.Cond.selects "RoundingAuditor$ByDay" ({ cls := "RoundingAuditor$Ordered", name := "put", desc := "(LRoundingAuditor$Ledger;I)V" } : Jvm.MethodName) ({ cls := "RoundingAuditor$Sorted", name := "put", desc := "(LRoundingAuditor$Ledger;I)V" } : Jvm.MethodName)) ∈ lw_all := lw_g (lw_at lw_m5 168 rfl) rfl
theorem q1213 : (Jvm.Cond.selects "RoundingAuditor$ByDay" ({ cls := "RoundingAuditor$Ordered", name := "add", desc := "(LRoundingAuditor$Ledger;DDLRoundingAuditor$Tape;)D" } : Jvm.MethodName) ({ cls := "RoundingAuditor$Way", name := "add", desc := "(LRoundingAuditor$Ledger;DDLRoundingAuditor$Tape;)D" } : Jvm.MethodName)) ∈ lw_all := lw_g (lw_at lw_m5 189 rfl) rfl
theorem q1223 : (Jvm.Cond.selects "RoundingAuditor$ByDay" ({ cls := "RoundingAuditor$Way", name := "sum", desc := "(LRoundingAuditor$Ledger;LRoundingAuditor$Tape;)D" } : Jvm.MethodName) ({ cls := "RoundingAuditor$Ordered", name := "sum", desc := "(LRoundingAuditor$Ledger;LRoundingAuditor$Tape;)D" } : Jvm.MethodName)) ∈ lw_all := lw_g (lw_at lw_m5 199 rfl) rfl
theorem q1332 : (Jvm.Cond.selects "RoundingAuditor$ByDay" ({ cls := "java/lang/Object", name := "getClass", desc := "()Ljava/lang/Class;" } : Jvm.MethodName) ({ cls := "java/lang/Object", name := "getClass", desc := "()Ljava/lang/Class;" } : Jvm.MethodName)) ∈ lw_all := lw_g (lw_at lw_m6 68 rfl) rfl
theorem q2072 : (Jvm.Cond.castable "RoundingAuditor$ByDay" "java/lang/Object") ∈ lw_tbl := lw_at lw_m9 88 rfl
theorem in_X17 : ∀ w ∈ wsX170, w ∈ lw_all := lw_in wsX170 [1044] (by decide +kernel) (by decide +kernel)

/-! RoundingAuditor$Given -/
set_option maxRecDepth 100000
def RX18 : String := "RoundingAuditor$Given"
def TX18 : u_T := fun k => match k with
  | _ => ("RoundingAuditor$Ordered", "order", "[I", true)
def tyX18 : Nat → FieldType := fun k => match k with
  | _ => .array .int
abbrev wsX180 : List Cond := u_ws RX18 TX18 1
theorem nmX18 : ∀ a, a < 1 → ∀ b, b < 1 → a ≠ b → (TX18 a).2.1 ≠ (TX18 b).2.1 := by decide +kernel
theorem tyX18_ok : ∀ k, k < 1 → parseFieldDescriptor (TX18 k).2.2.1 = some (tyX18 k) := by decide +kernel
abbrev cX18_init : ByteArray := prog_13_method_1_code
def yX18_init : MethodName := ⟨RX18, "<init>", "()V"⟩
theorem dX18_init_0 : decode cX18_init 0 = .ok (.aload_n 0, 1) := by decide +kernel
theorem dX18_init_1 : decode cX18_init 1 = .ok (.invokespecial 1, 3) := by decide +kernel
theorem dX18_init_4 : decode cX18_init 4 = .ok (.return_, 1) := by decide +kernel
abbrev cX18_put : ByteArray := prog_13_method_2_code
def yX18_put : MethodName := ⟨RX18, "put", "(LRoundingAuditor$Ledger;I)V"⟩
def dkwX18_put_1 : List UInt8 := [177]
abbrev dktX18_put_1 : List UInt8 := dkwX18_put_1 ++ []
def dkwX18_put_0 : List UInt8 := [3, 62, 29, 28, 162, 0, 20, 42, 180, 0, 7, 29, 43, 29, 182, 0, 13, 79, 132, 3, 1, 167, 255, 237]
abbrev dktX18_put_0 : List UInt8 := dkwX18_put_0 ++ dktX18_put_1
theorem dksX18_put_0 : cX18_put.data.toList.drop 0 = dktX18_put_0 := by decide +kernel
theorem dksX18_put_1 : cX18_put.data.toList.drop 24 = dktX18_put_1 := dk_seg dksX18_put_0 24 rfl rfl
theorem dX18_put_0 : decode cX18_put 0 = .ok (.iconst 0, 1) := dk_3 (dk_at dksX18_put_0 0 rfl rfl)
theorem dX18_put_1 : decode cX18_put 1 = .ok (.istore_n 3, 1) := dk_62 (dk_at dksX18_put_0 1 rfl rfl)
theorem dX18_put_2 : decode cX18_put 2 = .ok (.iload_n 3, 1) := dk_29 (dk_at dksX18_put_0 2 rfl rfl)
theorem dX18_put_3 : decode cX18_put 3 = .ok (.iload_n 2, 1) := dk_28 (dk_at dksX18_put_0 3 rfl rfl)
theorem dX18_put_4 : decode cX18_put 4 = .ok (.if_icmp .ge 20, 3) := dk_162 0 20 (dk_at dksX18_put_0 4 rfl rfl)
theorem dX18_put_7 : decode cX18_put 7 = .ok (.aload_n 0, 1) := dk_42 (dk_at dksX18_put_0 7 rfl rfl)
theorem dX18_put_8 : decode cX18_put 8 = .ok (.getfield 7, 3) := dk_180 0 7 (dk_at dksX18_put_0 8 rfl rfl)
theorem dX18_put_11 : decode cX18_put 11 = .ok (.iload_n 3, 1) := dk_29 (dk_at dksX18_put_0 11 rfl rfl)
theorem dX18_put_12 : decode cX18_put 12 = .ok (.aload_n 1, 1) := dk_43 (dk_at dksX18_put_0 12 rfl rfl)
theorem dX18_put_13 : decode cX18_put 13 = .ok (.iload_n 3, 1) := dk_29 (dk_at dksX18_put_0 13 rfl rfl)
theorem dX18_put_14 : decode cX18_put 14 = .ok (.invokevirtual 13, 3) := dk_182 0 13 (dk_at dksX18_put_0 14 rfl rfl)
theorem dX18_put_17 : decode cX18_put 17 = .ok (.iastore, 1) := dk_79 (dk_at dksX18_put_0 17 rfl rfl)
theorem dX18_put_18 : decode cX18_put 18 = .ok (.iinc 3 1, 3) := dk_132 3 1 (dk_at dksX18_put_0 18 rfl rfl)
theorem dX18_put_21 : decode cX18_put 21 = .ok (.goto (-19), 3) := dk_167 255 237 (dk_at dksX18_put_0 21 rfl rfl)
theorem dX18_put_24 : decode cX18_put 24 = .ok (.return_, 1) := dk_177 (dk_at dksX18_put_1 0 rfl rfl)
theorem q99 : (Jvm.Cond.initialized "RoundingAuditor$Given") ∈ lw_all := lw_g (lw_at lw_m1 35 rfl) rfl
theorem q996 : (Jvm.Cond.fieldLink "RoundingAuditor$Given" (7 : Nat) "RoundingAuditor$Given" "order" "[I") ∈ lw_all := lw_g (lw_at lw_m4 212 rfl) rfl
theorem q997 : (Jvm.Cond.sameField "RoundingAuditor$Given" "RoundingAuditor$Ordered" "order" "[I") ∈ lw_all := lw_g (lw_at lw_m4 213 rfl) rfl
theorem q1047 : (Jvm.Cond.instantiable "RoundingAuditor$Given" (1 : Nat)) ∈ lw_all := lw_g (lw_at lw_m5 23 rfl) rfl
theorem q1049 : (Jvm.Cond.instanceMethod ({ cls := "RoundingAuditor$Given", name := "<init>", desc := "()V" } : Jvm.MethodName)) ∈ lw_all := lw_g (lw_at lw_m5 25 rfl) rfl
theorem q1050 : (Jvm.Cond.code ({ cls := "RoundingAuditor$Given", name := "<init>", desc := "()V" } : Jvm.MethodName) prog_13_method_1_code (1 : Nat) (Option.none : Option Jvm.ClassFile.FieldType)) ∈ lw_all := lw_g (lw_at lw_m5 26 rfl) rfl
theorem q1051 : (Jvm.Cond.methodLinkNest "RoundingAuditor$Given" (1 : Nat) ({ cls := "RoundingAuditor$Ordered", name := "<init>", desc := "()V" } : Jvm.MethodName) "RoundingAuditor") ∈ lw_tbl := lw_at lw_m5 27 rfl
theorem q1052 : (Jvm.Cond.laysFinal "RoundingAuditor$Given" "RoundingAuditor$Ordered" "order" "[I") ∈ lw_all := lw_g (lw_at lw_m5 28 rfl) rfl
theorem q1053 : (Jvm.Cond.superclass "RoundingAuditor$Given" "RoundingAuditor$Ordered") ∈ lw_all := lw_g (lw_at lw_m5 29 rfl) rfl
theorem q1121 : (Jvm.Cond.selects "RoundingAuditor$Given" ({ cls := "RoundingAuditor$Way", name := "total", desc := "(LRoundingAuditor$Ledger;LRoundingAuditor$Tape;)D" } : Jvm.MethodName) ({ cls := "RoundingAuditor$Way", name := "total", desc := "(LRoundingAuditor$Ledger;LRoundingAuditor$Tape;)D" } : Jvm.MethodName)) ∈ lw_all := lw_g (lw_at lw_m5 97 rfl) rfl
theorem q1198 : (Jvm.Cond.selects "RoundingAuditor$Given" ({ cls := "RoundingAuditor$Ordered", name := "put", desc := "(LRoundingAuditor$Ledger;I)V" } : Jvm.MethodName) ({ cls := "RoundingAuditor$Given", name := "put", desc := "(LRoundingAuditor$Ledger;I)V" } : Jvm.MethodName)) ∈ lw_all := lw_g (lw_at lw_m5 174 rfl) rfl
theorem q1199 : (Jvm.Cond.instanceMethod ({ cls := "RoundingAuditor$Given", name := "put", desc := "(LRoundingAuditor$Ledger;I)V" } : Jvm.MethodName)) ∈ lw_all := lw_g (lw_at lw_m5 175 rfl) rfl
theorem q1200 : (Jvm.Cond.code ({ cls := "RoundingAuditor$Given", name := "put", desc := "(LRoundingAuditor$Ledger;I)V" } : Jvm.MethodName) prog_13_method_2_code (4 : Nat) (Option.none : Option Jvm.ClassFile.FieldType)) ∈ lw_all := lw_g (lw_at lw_m5 176 rfl) rfl
theorem q1201 : (Jvm.Cond.methodLink "RoundingAuditor$Given" (13 : Nat) ({ cls := "RoundingAuditor$Ledger", name := "given", desc := "(I)I" } : Jvm.MethodName)) ∈ lw_all := lw_g (lw_at lw_m5 177 rfl) rfl
theorem q1217 : (Jvm.Cond.selects "RoundingAuditor$Given" ({ cls := "RoundingAuditor$Ordered", name := "add", desc := "(LRoundingAuditor$Ledger;DDLRoundingAuditor$Tape;)D" } : Jvm.MethodName) ({ cls := "RoundingAuditor$Way", name := "add", desc := "(LRoundingAuditor$Ledger;DDLRoundingAuditor$Tape;)D" } : Jvm.MethodName)) ∈ lw_all := lw_g (lw_at lw_m5 193 rfl) rfl
theorem q1266 : (Jvm.Cond.selects "RoundingAuditor$Given" ({ cls := "RoundingAuditor$Way", name := "sum", desc := "(LRoundingAuditor$Ledger;LRoundingAuditor$Tape;)D" } : Jvm.MethodName) ({ cls := "RoundingAuditor$Ordered", name := "sum", desc := "(LRoundingAuditor$Ledger;LRoundingAuditor$Tape;)D" } : Jvm.MethodName)) ∈ lw_all := lw_g (lw_at lw_m6 2 rfl) rfl
theorem q1340 : (Jvm.Cond.selects "RoundingAuditor$Given" ({ cls := "java/lang/Object", name := "getClass", desc := "()Ljava/lang/Class;" } : Jvm.MethodName) ({ cls := "java/lang/Object", name := "getClass", desc := "()Ljava/lang/Class;" } : Jvm.MethodName)) ∈ lw_all := lw_g (lw_at lw_m6 76 rfl) rfl
theorem q2073 : (Jvm.Cond.castable "RoundingAuditor$Given" "java/lang/Object") ∈ lw_tbl := lw_at lw_m9 89 rfl
theorem in_X18 : ∀ w ∈ wsX180, w ∈ lw_all := lw_in wsX180 [1052] (by decide +kernel) (by decide +kernel)

/-! RoundingAuditor$Inside -/
set_option maxRecDepth 100000
def RX19 : String := "RoundingAuditor$Inside"
def TX19 : u_T := fun k => match k with
  | _ => ("RoundingAuditor$Ordered", "order", "[I", true)
def tyX19 : Nat → FieldType := fun k => match k with
  | _ => .array .int
abbrev wsX190 : List Cond := u_ws RX19 TX19 1
theorem nmX19 : ∀ a, a < 1 → ∀ b, b < 1 → a ≠ b → (TX19 a).2.1 ≠ (TX19 b).2.1 := by decide +kernel
theorem tyX19_ok : ∀ k, k < 1 → parseFieldDescriptor (TX19 k).2.2.1 = some (tyX19 k) := by decide +kernel
abbrev cX19_init : ByteArray := prog_15_method_1_code
def yX19_init : MethodName := ⟨RX19, "<init>", "()V"⟩
theorem dX19_init_0 : decode cX19_init 0 = .ok (.aload_n 0, 1) := by decide +kernel
theorem dX19_init_1 : decode cX19_init 1 = .ok (.invokespecial 1, 3) := by decide +kernel
theorem dX19_init_4 : decode cX19_init 4 = .ok (.return_, 1) := by decide +kernel
abbrev cX19_add : ByteArray := prog_15_method_2_code
def yX19_add : MethodName := ⟨RX19, "add", "(LRoundingAuditor$Ledger;DDLRoundingAuditor$Tape;)D"⟩
def dkwX19_add_0 : List UInt8 := [25, 6, 40, 24, 4, 43, 40, 24, 4, 182, 0, 7, 144, 141, 182, 0, 13, 175]
abbrev dktX19_add_0 : List UInt8 := dkwX19_add_0 ++ []
theorem dksX19_add_0 : cX19_add.data.toList.drop 0 = dktX19_add_0 := by decide +kernel
theorem dX19_add_0 : decode cX19_add 0 = .ok (.aload 6, 2) := dk_25 6 (dk_at dksX19_add_0 0 rfl rfl)
theorem dX19_add_2 : decode cX19_add 2 = .ok (.dload_n 2, 1) := dk_40 (dk_at dksX19_add_0 2 rfl rfl)
theorem dX19_add_3 : decode cX19_add 3 = .ok (.dload 4, 2) := dk_24 4 (dk_at dksX19_add_0 3 rfl rfl)
theorem dX19_add_5 : decode cX19_add 5 = .ok (.aload_n 1, 1) := dk_43 (dk_at dksX19_add_0 5 rfl rfl)
theorem dX19_add_6 : decode cX19_add 6 = .ok (.dload_n 2, 1) := dk_40 (dk_at dksX19_add_0 6 rfl rfl)
theorem dX19_add_7 : decode cX19_add 7 = .ok (.dload 4, 2) := dk_24 4 (dk_at dksX19_add_0 7 rfl rfl)
theorem dX19_add_9 : decode cX19_add 9 = .ok (.invokevirtual 7, 3) := dk_182 0 7 (dk_at dksX19_add_0 9 rfl rfl)
theorem dX19_add_12 : decode cX19_add 12 = .ok (.d2f, 1) := dk_144 (dk_at dksX19_add_0 12 rfl rfl)
theorem dX19_add_13 : decode cX19_add 13 = .ok (.f2d, 1) := dk_141 (dk_at dksX19_add_0 13 rfl rfl)
theorem dX19_add_14 : decode cX19_add 14 = .ok (.invokevirtual 13, 3) := dk_182 0 13 (dk_at dksX19_add_0 14 rfl rfl)
theorem dX19_add_17 : decode cX19_add 17 = .ok (.dreturn, 1) := dk_175 (dk_at dksX19_add_0 17 rfl rfl)
theorem q100 : (Jvm.Cond.initialized "RoundingAuditor$Inside") ∈ lw_all := lw_g (lw_at lw_m1 36 rfl) rfl
theorem q1055 : (Jvm.Cond.instantiable "RoundingAuditor$Inside" (1 : Nat)) ∈ lw_all := lw_g (lw_at lw_m5 31 rfl) rfl
theorem q1057 : (Jvm.Cond.instanceMethod ({ cls := "RoundingAuditor$Inside", name := "<init>", desc := "()V" } : Jvm.MethodName)) ∈ lw_all := lw_g (lw_at lw_m5 33 rfl) rfl
theorem q1058 : (Jvm.Cond.code ({ cls := "RoundingAuditor$Inside", name := "<init>", desc := "()V" } : Jvm.MethodName) prog_15_method_1_code (1 : Nat) (Option.none : Option Jvm.ClassFile.FieldType)) ∈ lw_all := lw_g (lw_at lw_m5 34 rfl) rfl
theorem q1059 : (Jvm.Cond.methodLinkNest "RoundingAuditor$Inside" (1 : Nat) ({ cls := "RoundingAuditor$FromFirst", name := "<init>", desc := "()V" } : Jvm.MethodName) "RoundingAuditor") ∈ lw_tbl := lw_at lw_m5 35 rfl
theorem q1060 : (Jvm.Cond.laysFinal "RoundingAuditor$Inside" "RoundingAuditor$Ordered" "order" "[I") ∈ lw_all := lw_g (lw_at lw_m5 36 rfl) rfl
theorem q1061 : (Jvm.Cond.superclass "RoundingAuditor$Inside" "RoundingAuditor$FromFirst") ∈ lw_all := lw_g (lw_at lw_m5 37 rfl) rfl
theorem q1123 : (Jvm.Cond.selects "RoundingAuditor$Inside" ({ cls := "RoundingAuditor$Way", name := "total", desc := "(LRoundingAuditor$Ledger;LRoundingAuditor$Tape;)D" } : Jvm.MethodName) ({ cls := "RoundingAuditor$Way", name := "total", desc := "(LRoundingAuditor$Ledger;LRoundingAuditor$Tape;)D" } : Jvm.MethodName)) ∈ lw_all := lw_g (lw_at lw_m5 99 rfl) rfl
theorem q1207 : (Jvm.Cond.selects "RoundingAuditor$Inside" ({ cls := "RoundingAuditor$Ordered", name := "put", desc := "(LRoundingAuditor$Ledger;I)V" } : Jvm.MethodName) ({ cls := "RoundingAuditor$FromFirst", name := "put", desc := "(LRoundingAuditor$Ledger;I)V" } : Jvm.MethodName)) ∈ lw_all := lw_g (lw_at lw_m5 183 rfl) rfl
theorem q1218 : (Jvm.Cond.selects "RoundingAuditor$Inside" ({ cls := "RoundingAuditor$Ordered", name := "add", desc := "(LRoundingAuditor$Ledger;DDLRoundingAuditor$Tape;)D" } : Jvm.MethodName) ({ cls := "RoundingAuditor$Inside", name := "add", desc := "(LRoundingAuditor$Ledger;DDLRoundingAuditor$Tape;)D" } : Jvm.MethodName)) ∈ lw_all := lw_g (lw_at lw_m5 194 rfl) rfl
theorem q1219 : (Jvm.Cond.instanceMethod ({ cls := "RoundingAuditor$Inside", name := "add", desc := "(LRoundingAuditor$Ledger;DDLRoundingAuditor$Tape;)D" } : Jvm.MethodName)) ∈ lw_all := lw_g (lw_at lw_m5 195 rfl) rfl
theorem q1220 : (Jvm.Cond.code ({ cls := "RoundingAuditor$Inside", name := "add", desc := "(LRoundingAuditor$Ledger;DDLRoundingAuditor$Tape;)D" } : Jvm.MethodName) prog_15_method_2_code (7 : Nat) (Option.some Jvm.ClassFile.FieldType.double)) ∈ lw_all := lw_g (lw_at lw_m5 196 rfl) rfl
theorem q1221 : (Jvm.Cond.methodLink "RoundingAuditor$Inside" (13 : Nat) ({ cls := "RoundingAuditor$Tape", name := "tell", desc := "(DDD)D" } : Jvm.MethodName)) ∈ lw_all := lw_g (lw_at lw_m5 197 rfl) rfl
theorem q1279 : (Jvm.Cond.selects "RoundingAuditor$Inside" ({ cls := "RoundingAuditor$Way", name := "sum", desc := "(LRoundingAuditor$Ledger;LRoundingAuditor$Tape;)D" } : Jvm.MethodName) ({ cls := "RoundingAuditor$Ordered", name := "sum", desc := "(LRoundingAuditor$Ledger;LRoundingAuditor$Tape;)D" } : Jvm.MethodName)) ∈ lw_all := lw_g (lw_at lw_m6 15 rfl) rfl
theorem q1342 : (Jvm.Cond.selects "RoundingAuditor$Inside" ({ cls := "java/lang/Object", name := "getClass", desc := "()Ljava/lang/Class;" } : Jvm.MethodName) ({ cls := "java/lang/Object", name := "getClass", desc := "()Ljava/lang/Class;" } : Jvm.MethodName)) ∈ lw_all := lw_g (lw_at lw_m6 78 rfl) rfl
theorem q2074 : (Jvm.Cond.castable "RoundingAuditor$Inside" "java/lang/Object") ∈ lw_tbl := lw_at lw_m9 90 rfl
theorem in_X19 : ∀ w ∈ wsX190, w ∈ lw_all := lw_in wsX190 [1060] (by decide +kernel) (by decide +kernel)

/-! RoundingAuditor$Halves -/
set_option maxRecDepth 100000
def RX20 : String := "RoundingAuditor$Halves"
abbrev cX20_init : ByteArray := prog_14_method_1_code
def yX20_init : MethodName := ⟨RX20, "<init>", "()V"⟩
theorem dX20_init_0 : decode cX20_init 0 = .ok (.aload_n 0, 1) := by decide +kernel
theorem dX20_init_1 : decode cX20_init 1 = .ok (.invokespecial 1, 3) := by decide +kernel
theorem dX20_init_4 : decode cX20_init 4 = .ok (.return_, 1) := by decide +kernel
abbrev cX20_sum : ByteArray := prog_14_method_3_code
def yX20_sum : MethodName := ⟨RX20, "sum", "(LRoundingAuditor$Ledger;LRoundingAuditor$Tape;)D"⟩
def dkwX20_sum_0 : List UInt8 := [42, 43, 3, 43, 182, 0, 23, 44, 182, 0, 13, 175]
abbrev dktX20_sum_0 : List UInt8 := dkwX20_sum_0 ++ []
theorem dksX20_sum_0 : cX20_sum.data.toList.drop 0 = dktX20_sum_0 := by decide +kernel
theorem dX20_sum_0 : decode cX20_sum 0 = .ok (.aload_n 0, 1) := dk_42 (dk_at dksX20_sum_0 0 rfl rfl)
theorem dX20_sum_1 : decode cX20_sum 1 = .ok (.aload_n 1, 1) := dk_43 (dk_at dksX20_sum_0 1 rfl rfl)
theorem dX20_sum_2 : decode cX20_sum 2 = .ok (.iconst 0, 1) := dk_3 (dk_at dksX20_sum_0 2 rfl rfl)
theorem dX20_sum_3 : decode cX20_sum 3 = .ok (.aload_n 1, 1) := dk_43 (dk_at dksX20_sum_0 3 rfl rfl)
theorem dX20_sum_4 : decode cX20_sum 4 = .ok (.invokevirtual 23, 3) := dk_182 0 23 (dk_at dksX20_sum_0 4 rfl rfl)
theorem dX20_sum_7 : decode cX20_sum 7 = .ok (.aload_n 2, 1) := dk_44 (dk_at dksX20_sum_0 7 rfl rfl)
theorem dX20_sum_8 : decode cX20_sum 8 = .ok (.invokevirtual 13, 3) := dk_182 0 13 (dk_at dksX20_sum_0 8 rfl rfl)
theorem dX20_sum_11 : decode cX20_sum 11 = .ok (.dreturn, 1) := dk_175 (dk_at dksX20_sum_0 11 rfl rfl)
abbrev cX20_part : ByteArray := prog_14_method_2_code
def yX20_part : MethodName := ⟨RX20, "part", "(LRoundingAuditor$Ledger;IILRoundingAuditor$Tape;)D"⟩
def dkwX20_part_2 : List UInt8 := [24, 7, 25, 4, 182, 0, 19, 175]
abbrev dktX20_part_2 : List UInt8 := dkwX20_part_2 ++ []
def dkwX20_part_1 : List UInt8 := [42, 43, 28, 29, 5, 108, 96, 29, 29, 5, 108, 100, 25, 4, 182, 0, 13, 57, 7, 42, 43, 24, 5]
abbrev dktX20_part_1 : List UInt8 := dkwX20_part_1 ++ dktX20_part_2
def dkwX20_part_0 : List UInt8 := [29, 4, 160, 0, 9, 43, 28, 182, 0, 7, 175, 42, 43, 28, 29, 5, 108, 25, 4, 182, 0, 13, 57, 5]
abbrev dktX20_part_0 : List UInt8 := dkwX20_part_0 ++ dktX20_part_1
theorem dksX20_part_0 : cX20_part.data.toList.drop 0 = dktX20_part_0 := by decide +kernel
theorem dksX20_part_1 : cX20_part.data.toList.drop 24 = dktX20_part_1 := dk_seg dksX20_part_0 24 rfl rfl
theorem dksX20_part_2 : cX20_part.data.toList.drop 47 = dktX20_part_2 := dk_seg dksX20_part_1 23 rfl rfl
theorem dX20_part_0 : decode cX20_part 0 = .ok (.iload_n 3, 1) := dk_29 (dk_at dksX20_part_0 0 rfl rfl)
theorem dX20_part_1 : decode cX20_part 1 = .ok (.iconst 1, 1) := dk_4 (dk_at dksX20_part_0 1 rfl rfl)
theorem dX20_part_2 : decode cX20_part 2 = .ok (.if_icmp .ne 9, 3) := dk_160 0 9 (dk_at dksX20_part_0 2 rfl rfl)
theorem dX20_part_5 : decode cX20_part 5 = .ok (.aload_n 1, 1) := dk_43 (dk_at dksX20_part_0 5 rfl rfl)
theorem dX20_part_6 : decode cX20_part 6 = .ok (.iload_n 2, 1) := dk_28 (dk_at dksX20_part_0 6 rfl rfl)
theorem dX20_part_7 : decode cX20_part 7 = .ok (.invokevirtual 7, 3) := dk_182 0 7 (dk_at dksX20_part_0 7 rfl rfl)
theorem dX20_part_10 : decode cX20_part 10 = .ok (.dreturn, 1) := dk_175 (dk_at dksX20_part_0 10 rfl rfl)
theorem dX20_part_11 : decode cX20_part 11 = .ok (.aload_n 0, 1) := dk_42 (dk_at dksX20_part_0 11 rfl rfl)
theorem dX20_part_12 : decode cX20_part 12 = .ok (.aload_n 1, 1) := dk_43 (dk_at dksX20_part_0 12 rfl rfl)
theorem dX20_part_13 : decode cX20_part 13 = .ok (.iload_n 2, 1) := dk_28 (dk_at dksX20_part_0 13 rfl rfl)
theorem dX20_part_14 : decode cX20_part 14 = .ok (.iload_n 3, 1) := dk_29 (dk_at dksX20_part_0 14 rfl rfl)
theorem dX20_part_15 : decode cX20_part 15 = .ok (.iconst 2, 1) := dk_5 (dk_at dksX20_part_0 15 rfl rfl)
theorem dX20_part_16 : decode cX20_part 16 = .ok (.idiv, 1) := dk_108 (dk_at dksX20_part_0 16 rfl rfl)
theorem dX20_part_17 : decode cX20_part 17 = .ok (.aload 4, 2) := dk_25 4 (dk_at dksX20_part_0 17 rfl rfl)
theorem dX20_part_19 : decode cX20_part 19 = .ok (.invokevirtual 13, 3) := dk_182 0 13 (dk_at dksX20_part_0 19 rfl rfl)
theorem dX20_part_22 : decode cX20_part 22 = .ok (.dstore 5, 2) := dk_57 5 (dk_at dksX20_part_0 22 rfl rfl)
theorem dX20_part_24 : decode cX20_part 24 = .ok (.aload_n 0, 1) := dk_42 (dk_at dksX20_part_1 0 rfl rfl)
theorem dX20_part_25 : decode cX20_part 25 = .ok (.aload_n 1, 1) := dk_43 (dk_at dksX20_part_1 1 rfl rfl)
theorem dX20_part_26 : decode cX20_part 26 = .ok (.iload_n 2, 1) := dk_28 (dk_at dksX20_part_1 2 rfl rfl)
theorem dX20_part_27 : decode cX20_part 27 = .ok (.iload_n 3, 1) := dk_29 (dk_at dksX20_part_1 3 rfl rfl)
theorem dX20_part_28 : decode cX20_part 28 = .ok (.iconst 2, 1) := dk_5 (dk_at dksX20_part_1 4 rfl rfl)
theorem dX20_part_29 : decode cX20_part 29 = .ok (.idiv, 1) := dk_108 (dk_at dksX20_part_1 5 rfl rfl)
theorem dX20_part_30 : decode cX20_part 30 = .ok (.iadd, 1) := dk_96 (dk_at dksX20_part_1 6 rfl rfl)
theorem dX20_part_31 : decode cX20_part 31 = .ok (.iload_n 3, 1) := dk_29 (dk_at dksX20_part_1 7 rfl rfl)
theorem dX20_part_32 : decode cX20_part 32 = .ok (.iload_n 3, 1) := dk_29 (dk_at dksX20_part_1 8 rfl rfl)
theorem dX20_part_33 : decode cX20_part 33 = .ok (.iconst 2, 1) := dk_5 (dk_at dksX20_part_1 9 rfl rfl)
theorem dX20_part_34 : decode cX20_part 34 = .ok (.idiv, 1) := dk_108 (dk_at dksX20_part_1 10 rfl rfl)
theorem dX20_part_35 : decode cX20_part 35 = .ok (.isub, 1) := dk_100 (dk_at dksX20_part_1 11 rfl rfl)
theorem dX20_part_36 : decode cX20_part 36 = .ok (.aload 4, 2) := dk_25 4 (dk_at dksX20_part_1 12 rfl rfl)
theorem dX20_part_38 : decode cX20_part 38 = .ok (.invokevirtual 13, 3) := dk_182 0 13 (dk_at dksX20_part_1 14 rfl rfl)
theorem dX20_part_41 : decode cX20_part 41 = .ok (.dstore 7, 2) := dk_57 7 (dk_at dksX20_part_1 17 rfl rfl)
theorem dX20_part_43 : decode cX20_part 43 = .ok (.aload_n 0, 1) := dk_42 (dk_at dksX20_part_1 19 rfl rfl)
theorem dX20_part_44 : decode cX20_part 44 = .ok (.aload_n 1, 1) := dk_43 (dk_at dksX20_part_1 20 rfl rfl)
theorem dX20_part_45 : decode cX20_part 45 = .ok (.dload 5, 2) := dk_24 5 (dk_at dksX20_part_1 21 rfl rfl)
theorem dX20_part_47 : decode cX20_part 47 = .ok (.dload 7, 2) := dk_24 7 (dk_at dksX20_part_2 0 rfl rfl)
theorem dX20_part_49 : decode cX20_part 49 = .ok (.aload 4, 2) := dk_25 4 (dk_at dksX20_part_2 2 rfl rfl)
theorem dX20_part_51 : decode cX20_part 51 = .ok (.invokevirtual 19, 3) := dk_182 0 19 (dk_at dksX20_part_2 4 rfl rfl)
theorem dX20_part_54 : decode cX20_part 54 = .ok (.dreturn, 1) := dk_175 (dk_at dksX20_part_2 7 rfl rfl)
theorem q101 : (Jvm.Cond.initialized "RoundingAuditor$Halves") ∈ lw_all := lw_g (lw_at lw_m1 37 rfl) rfl
theorem q1063 : (Jvm.Cond.instantiable "RoundingAuditor$Halves" (0 : Nat)) ∈ lw_all := lw_g (lw_at lw_m5 39 rfl) rfl
theorem q1065 : (Jvm.Cond.instanceMethod ({ cls := "RoundingAuditor$Halves", name := "<init>", desc := "()V" } : Jvm.MethodName)) ∈ lw_all := lw_g (lw_at lw_m5 41 rfl) rfl
theorem q1066 : (Jvm.Cond.code ({ cls := "RoundingAuditor$Halves", name := "<init>", desc := "()V" } : Jvm.MethodName) prog_14_method_1_code (1 : Nat) (Option.none : Option Jvm.ClassFile.FieldType)) ∈ lw_all := lw_g (lw_at lw_m5 42 rfl) rfl
theorem q1067 : (Jvm.Cond.methodLinkNest "RoundingAuditor$Halves" (1 : Nat) ({ cls := "RoundingAuditor$Way", name := "<init>", desc := "()V" } : Jvm.MethodName) "RoundingAuditor") ∈ lw_tbl := lw_at lw_m5 43 rfl
theorem q1068 : (Jvm.Cond.superclass "RoundingAuditor$Halves" "RoundingAuditor$Way") ∈ lw_all := lw_g (lw_at lw_m5 44 rfl) rfl
theorem q1122 : (Jvm.Cond.selects "RoundingAuditor$Halves" ({ cls := "RoundingAuditor$Way", name := "total", desc := "(LRoundingAuditor$Ledger;LRoundingAuditor$Tape;)D" } : Jvm.MethodName) ({ cls := "RoundingAuditor$Way", name := "total", desc := "(LRoundingAuditor$Ledger;LRoundingAuditor$Tape;)D" } : Jvm.MethodName)) ∈ lw_all := lw_g (lw_at lw_m5 98 rfl) rfl
theorem q1267 : (Jvm.Cond.selects "RoundingAuditor$Halves" ({ cls := "RoundingAuditor$Way", name := "sum", desc := "(LRoundingAuditor$Ledger;LRoundingAuditor$Tape;)D" } : Jvm.MethodName) ({ cls := "RoundingAuditor$Halves", name := "sum", desc := "(LRoundingAuditor$Ledger;LRoundingAuditor$Tape;)D" } : Jvm.MethodName)) ∈ lw_all := lw_g (lw_at lw_m6 3 rfl) rfl
theorem q1268 : (Jvm.Cond.instanceMethod ({ cls := "RoundingAuditor$Halves", name := "sum", desc := "(LRoundingAuditor$Ledger;LRoundingAuditor$Tape;)D" } : Jvm.MethodName)) ∈ lw_all := lw_g (lw_at lw_m6 4 rfl) rfl
theorem q1269 : (Jvm.Cond.code ({ cls := "RoundingAuditor$Halves", name := "sum", desc := "(LRoundingAuditor$Ledger;LRoundingAuditor$Tape;)D" } : Jvm.MethodName) prog_14_method_3_code (3 : Nat) (Option.some Jvm.ClassFile.FieldType.double)) ∈ lw_all := lw_g (lw_at lw_m6 5 rfl) rfl
theorem q1270 : (Jvm.Cond.methodLink "RoundingAuditor$Halves" (23 : Nat) ({ cls := "RoundingAuditor$Ledger", name := "length", desc := "()I" } : Jvm.MethodName)) ∈ lw_all := lw_g (lw_at lw_m6 6 rfl) rfl
theorem q1271 : (Jvm.Cond.methodLink "RoundingAuditor$Halves" (13 : Nat) ({ cls := "RoundingAuditor$Halves", name := "part", desc := "(LRoundingAuditor$Ledger;IILRoundingAuditor$Tape;)D" } : Jvm.MethodName)) ∈ lw_all := lw_g (lw_at lw_m6 7 rfl) rfl
theorem q1272 : (Jvm.Cond.privateMethod ({ cls := "RoundingAuditor$Halves", name := "part", desc := "(LRoundingAuditor$Ledger;IILRoundingAuditor$Tape;)D" } : Jvm.MethodName)) ∈ lw_tbl := lw_at lw_m6 8 rfl
theorem q1273 : (Jvm.Cond.instanceMethod ({ cls := "RoundingAuditor$Halves", name := "part", desc := "(LRoundingAuditor$Ledger;IILRoundingAuditor$Tape;)D" } : Jvm.MethodName)) ∈ lw_all := lw_g (lw_at lw_m6 9 rfl) rfl
theorem q1274 : (Jvm.Cond.code ({ cls := "RoundingAuditor$Halves", name := "part", desc := "(LRoundingAuditor$Ledger;IILRoundingAuditor$Tape;)D" } : Jvm.MethodName) prog_14_method_2_code (9 : Nat) (Option.some Jvm.ClassFile.FieldType.double)) ∈ lw_all := lw_g (lw_at lw_m6 10 rfl) rfl
theorem q1275 : (Jvm.Cond.methodLink "RoundingAuditor$Halves" (7 : Nat) ({ cls := "RoundingAuditor$Ledger", name := "at", desc := "(I)D" } : Jvm.MethodName)) ∈ lw_all := lw_g (lw_at lw_m6 11 rfl) rfl
theorem q1276 : (Jvm.Cond.methodLink "RoundingAuditor$Halves" (19 : Nat) ({ cls := "RoundingAuditor$Halves", name := "add", desc := "(LRoundingAuditor$Ledger;DDLRoundingAuditor$Tape;)D" } : Jvm.MethodName)) ∈ lw_all := lw_g (lw_at lw_m6 12 rfl) rfl
theorem q1277 : (Jvm.Cond.sameMethod "RoundingAuditor$Halves" "RoundingAuditor$Way" "add" "(LRoundingAuditor$Ledger;DDLRoundingAuditor$Tape;)D") ∈ lw_all := lw_g (lw_at lw_m6 13 rfl) rfl
theorem q1278 : (Jvm.Cond.selects "RoundingAuditor$Halves" ({ cls := "RoundingAuditor$Halves", name := "add", desc := "(LRoundingAuditor$Ledger;DDLRoundingAuditor$Tape;)D" } : Jvm.MethodName) ({ cls := "RoundingAuditor$Way", name := "add", desc := "(LRoundingAuditor$Ledger;DDLRoundingAuditor$Tape;)D" } : Jvm.MethodName)) ∈ lw_all := lw_g (lw_at lw_m6 14 rfl) rfl
theorem q1341 : (Jvm.Cond.selects "RoundingAuditor$Halves" ({ cls := "java/lang/Object", name := "getClass", desc := "()Ljava/lang/Class;" } : Jvm.MethodName) ({ cls := "java/lang/Object", name := "getClass", desc := "()Ljava/lang/Class;" } : Jvm.MethodName)) ∈ lw_all := lw_g (lw_at lw_m6 77 rfl) rfl
theorem q2075 : (Jvm.Cond.castable "RoundingAuditor$Halves" "java/lang/Object") ∈ lw_tbl := lw_at lw_m9 91 rfl

/-! RoundingAuditor$Blocks -/
set_option maxRecDepth 100000
def RX21 : String := "RoundingAuditor$Blocks"
def TX21 : u_T := fun k => match k with
  | 0 => ("RoundingAuditor$Blocks", "a", "I", true)
  | _ => ("RoundingAuditor$Blocks", "totals", "[D", true)
def tyX21 : Nat → FieldType := fun k => match k with
  | 0 => .int
  | _ => .array .double
abbrev wsX210 : List Cond := u_ws RX21 TX21 2
theorem nmX21 : ∀ a, a < 2 → ∀ b, b < 2 → a ≠ b → (TX21 a).2.1 ≠ (TX21 b).2.1 := by decide +kernel
theorem tyX21_ok : ∀ k, k < 2 → parseFieldDescriptor (TX21 k).2.2.1 = some (tyX21 k) := by decide +kernel
abbrev cX21_init : ByteArray := prog_3_method_1_code
def yX21_init : MethodName := ⟨RX21, "<init>", "(I)V"⟩
def dkwX21_init_0 : List UInt8 := [42, 183, 0, 3, 42, 16, 60, 188, 7, 181, 0, 9, 42, 27, 181, 0, 15, 177]
abbrev dktX21_init_0 : List UInt8 := dkwX21_init_0 ++ []
theorem dksX21_init_0 : cX21_init.data.toList.drop 0 = dktX21_init_0 := by decide +kernel
theorem dX21_init_0 : decode cX21_init 0 = .ok (.aload_n 0, 1) := dk_42 (dk_at dksX21_init_0 0 rfl rfl)
theorem dX21_init_1 : decode cX21_init 1 = .ok (.invokespecial 3, 3) := dk_183 0 3 (dk_at dksX21_init_0 1 rfl rfl)
theorem dX21_init_4 : decode cX21_init 4 = .ok (.aload_n 0, 1) := dk_42 (dk_at dksX21_init_0 4 rfl rfl)
theorem dX21_init_5 : decode cX21_init 5 = .ok (.bipush 60, 2) := dk_16 60 (dk_at dksX21_init_0 5 rfl rfl)
theorem dX21_init_7 : decode cX21_init 7 = .ok (.newarray .double, 2) := dk_188_7 (dk_at dksX21_init_0 7 rfl rfl)
theorem dX21_init_9 : decode cX21_init 9 = .ok (.putfield 9, 3) := dk_181 0 9 (dk_at dksX21_init_0 9 rfl rfl)
theorem dX21_init_12 : decode cX21_init 12 = .ok (.aload_n 0, 1) := dk_42 (dk_at dksX21_init_0 12 rfl rfl)
theorem dX21_init_13 : decode cX21_init 13 = .ok (.iload_n 1, 1) := dk_27 (dk_at dksX21_init_0 13 rfl rfl)
theorem dX21_init_14 : decode cX21_init 14 = .ok (.putfield 15, 3) := dk_181 0 15 (dk_at dksX21_init_0 14 rfl rfl)
theorem dX21_init_17 : decode cX21_init 17 = .ok (.return_, 1) := dk_177 (dk_at dksX21_init_0 17 rfl rfl)
abbrev cX21_sum : ByteArray := prog_3_method_2_code
def yX21_sum : MethodName := ⟨RX21, "sum", "(LRoundingAuditor$Ledger;LRoundingAuditor$Tape;)D"⟩
def dkwX21_sum_5 : List UInt8 := [180, 0, 9, 21, 7, 49, 44, 182, 0, 35, 57, 5, 132, 7, 1, 167, 255, 229, 24, 5, 175]
abbrev dktX21_sum_5 : List UInt8 := dkwX21_sum_5 ++ []
def dkwX21_sum_4 : List UInt8 := [180, 0, 9, 3, 49, 57, 5, 4, 54, 7, 21, 7, 21, 4, 162, 0, 26, 42, 43, 24, 5, 42]
abbrev dktX21_sum_4 : List UInt8 := dkwX21_sum_4 ++ dktX21_sum_5
def dkwX21_sum_3 : List UInt8 := [180, 0, 9, 21, 4, 24, 6, 82, 132, 4, 1, 21, 5, 42, 180, 0, 15, 96, 54, 5, 167, 255, 177, 42]
abbrev dktX21_sum_3 : List UInt8 := dkwX21_sum_3 ++ dktX21_sum_4
def dkwX21_sum_2 : List UInt8 := [42, 43, 24, 6, 43, 21, 8, 182, 0, 25, 44, 182, 0, 35, 57, 6, 132, 8, 1, 167, 255, 221, 42]
abbrev dktX21_sum_2 : List UInt8 := dkwX21_sum_2 ++ dktX21_sum_3
def dkwX21_sum_1 : List UInt8 := [57, 6, 21, 5, 4, 96, 54, 8, 21, 8, 29, 21, 5, 42, 180, 0, 15, 96, 184, 0, 29, 162, 0, 25]
abbrev dktX21_sum_1 : List UInt8 := dkwX21_sum_1 ++ dktX21_sum_2
def dkwX21_sum_0 : List UInt8 := [43, 182, 0, 19, 62, 3, 54, 4, 3, 54, 5, 21, 5, 29, 162, 0, 79, 43, 21, 5, 182, 0, 25]
abbrev dktX21_sum_0 : List UInt8 := dkwX21_sum_0 ++ dktX21_sum_1
theorem dksX21_sum_0 : cX21_sum.data.toList.drop 0 = dktX21_sum_0 := by decide +kernel
theorem dksX21_sum_1 : cX21_sum.data.toList.drop 23 = dktX21_sum_1 := dk_seg dksX21_sum_0 23 rfl rfl
theorem dksX21_sum_2 : cX21_sum.data.toList.drop 47 = dktX21_sum_2 := dk_seg dksX21_sum_1 24 rfl rfl
theorem dksX21_sum_3 : cX21_sum.data.toList.drop 70 = dktX21_sum_3 := dk_seg dksX21_sum_2 23 rfl rfl
theorem dksX21_sum_4 : cX21_sum.data.toList.drop 94 = dktX21_sum_4 := dk_seg dksX21_sum_3 24 rfl rfl
theorem dksX21_sum_5 : cX21_sum.data.toList.drop 116 = dktX21_sum_5 := dk_seg dksX21_sum_4 22 rfl rfl
theorem dX21_sum_0 : decode cX21_sum 0 = .ok (.aload_n 1, 1) := dk_43 (dk_at dksX21_sum_0 0 rfl rfl)
theorem dX21_sum_1 : decode cX21_sum 1 = .ok (.invokevirtual 19, 3) := dk_182 0 19 (dk_at dksX21_sum_0 1 rfl rfl)
theorem dX21_sum_4 : decode cX21_sum 4 = .ok (.istore_n 3, 1) := dk_62 (dk_at dksX21_sum_0 4 rfl rfl)
theorem dX21_sum_5 : decode cX21_sum 5 = .ok (.iconst 0, 1) := dk_3 (dk_at dksX21_sum_0 5 rfl rfl)
theorem dX21_sum_6 : decode cX21_sum 6 = .ok (.istore 4, 2) := dk_54 4 (dk_at dksX21_sum_0 6 rfl rfl)
theorem dX21_sum_8 : decode cX21_sum 8 = .ok (.iconst 0, 1) := dk_3 (dk_at dksX21_sum_0 8 rfl rfl)
theorem dX21_sum_9 : decode cX21_sum 9 = .ok (.istore 5, 2) := dk_54 5 (dk_at dksX21_sum_0 9 rfl rfl)
theorem dX21_sum_11 : decode cX21_sum 11 = .ok (.iload 5, 2) := dk_21 5 (dk_at dksX21_sum_0 11 rfl rfl)
theorem dX21_sum_13 : decode cX21_sum 13 = .ok (.iload_n 3, 1) := dk_29 (dk_at dksX21_sum_0 13 rfl rfl)
theorem dX21_sum_14 : decode cX21_sum 14 = .ok (.if_icmp .ge 79, 3) := dk_162 0 79 (dk_at dksX21_sum_0 14 rfl rfl)
theorem dX21_sum_17 : decode cX21_sum 17 = .ok (.aload_n 1, 1) := dk_43 (dk_at dksX21_sum_0 17 rfl rfl)
theorem dX21_sum_18 : decode cX21_sum 18 = .ok (.iload 5, 2) := dk_21 5 (dk_at dksX21_sum_0 18 rfl rfl)
theorem dX21_sum_20 : decode cX21_sum 20 = .ok (.invokevirtual 25, 3) := dk_182 0 25 (dk_at dksX21_sum_0 20 rfl rfl)
theorem dX21_sum_23 : decode cX21_sum 23 = .ok (.dstore 6, 2) := dk_57 6 (dk_at dksX21_sum_1 0 rfl rfl)
theorem dX21_sum_25 : decode cX21_sum 25 = .ok (.iload 5, 2) := dk_21 5 (dk_at dksX21_sum_1 2 rfl rfl)
theorem dX21_sum_27 : decode cX21_sum 27 = .ok (.iconst 1, 1) := dk_4 (dk_at dksX21_sum_1 4 rfl rfl)
theorem dX21_sum_28 : decode cX21_sum 28 = .ok (.iadd, 1) := dk_96 (dk_at dksX21_sum_1 5 rfl rfl)
theorem dX21_sum_29 : decode cX21_sum 29 = .ok (.istore 8, 2) := dk_54 8 (dk_at dksX21_sum_1 6 rfl rfl)
theorem dX21_sum_31 : decode cX21_sum 31 = .ok (.iload 8, 2) := dk_21 8 (dk_at dksX21_sum_1 8 rfl rfl)
theorem dX21_sum_33 : decode cX21_sum 33 = .ok (.iload_n 3, 1) := dk_29 (dk_at dksX21_sum_1 10 rfl rfl)
theorem dX21_sum_34 : decode cX21_sum 34 = .ok (.iload 5, 2) := dk_21 5 (dk_at dksX21_sum_1 11 rfl rfl)
theorem dX21_sum_36 : decode cX21_sum 36 = .ok (.aload_n 0, 1) := dk_42 (dk_at dksX21_sum_1 13 rfl rfl)
theorem dX21_sum_37 : decode cX21_sum 37 = .ok (.getfield 15, 3) := dk_180 0 15 (dk_at dksX21_sum_1 14 rfl rfl)
theorem dX21_sum_40 : decode cX21_sum 40 = .ok (.iadd, 1) := dk_96 (dk_at dksX21_sum_1 17 rfl rfl)
theorem dX21_sum_41 : decode cX21_sum 41 = .ok (.invokestatic 29, 3) := dk_184 0 29 (dk_at dksX21_sum_1 18 rfl rfl)
theorem dX21_sum_44 : decode cX21_sum 44 = .ok (.if_icmp .ge 25, 3) := dk_162 0 25 (dk_at dksX21_sum_1 21 rfl rfl)
theorem dX21_sum_47 : decode cX21_sum 47 = .ok (.aload_n 0, 1) := dk_42 (dk_at dksX21_sum_2 0 rfl rfl)
theorem dX21_sum_48 : decode cX21_sum 48 = .ok (.aload_n 1, 1) := dk_43 (dk_at dksX21_sum_2 1 rfl rfl)
theorem dX21_sum_49 : decode cX21_sum 49 = .ok (.dload 6, 2) := dk_24 6 (dk_at dksX21_sum_2 2 rfl rfl)
theorem dX21_sum_51 : decode cX21_sum 51 = .ok (.aload_n 1, 1) := dk_43 (dk_at dksX21_sum_2 4 rfl rfl)
theorem dX21_sum_52 : decode cX21_sum 52 = .ok (.iload 8, 2) := dk_21 8 (dk_at dksX21_sum_2 5 rfl rfl)
theorem dX21_sum_54 : decode cX21_sum 54 = .ok (.invokevirtual 25, 3) := dk_182 0 25 (dk_at dksX21_sum_2 7 rfl rfl)
theorem dX21_sum_57 : decode cX21_sum 57 = .ok (.aload_n 2, 1) := dk_44 (dk_at dksX21_sum_2 10 rfl rfl)
theorem dX21_sum_58 : decode cX21_sum 58 = .ok (.invokevirtual 35, 3) := dk_182 0 35 (dk_at dksX21_sum_2 11 rfl rfl)
theorem dX21_sum_61 : decode cX21_sum 61 = .ok (.dstore 6, 2) := dk_57 6 (dk_at dksX21_sum_2 14 rfl rfl)
theorem dX21_sum_63 : decode cX21_sum 63 = .ok (.iinc 8 1, 3) := dk_132 8 1 (dk_at dksX21_sum_2 16 rfl rfl)
theorem dX21_sum_66 : decode cX21_sum 66 = .ok (.goto (-35), 3) := dk_167 255 221 (dk_at dksX21_sum_2 19 rfl rfl)
theorem dX21_sum_69 : decode cX21_sum 69 = .ok (.aload_n 0, 1) := dk_42 (dk_at dksX21_sum_2 22 rfl rfl)
theorem dX21_sum_70 : decode cX21_sum 70 = .ok (.getfield 9, 3) := dk_180 0 9 (dk_at dksX21_sum_3 0 rfl rfl)
theorem dX21_sum_73 : decode cX21_sum 73 = .ok (.iload 4, 2) := dk_21 4 (dk_at dksX21_sum_3 3 rfl rfl)
theorem dX21_sum_75 : decode cX21_sum 75 = .ok (.dload 6, 2) := dk_24 6 (dk_at dksX21_sum_3 5 rfl rfl)
theorem dX21_sum_77 : decode cX21_sum 77 = .ok (.dastore, 1) := dk_82 (dk_at dksX21_sum_3 7 rfl rfl)
theorem dX21_sum_78 : decode cX21_sum 78 = .ok (.iinc 4 1, 3) := dk_132 4 1 (dk_at dksX21_sum_3 8 rfl rfl)
theorem dX21_sum_81 : decode cX21_sum 81 = .ok (.iload 5, 2) := dk_21 5 (dk_at dksX21_sum_3 11 rfl rfl)
theorem dX21_sum_83 : decode cX21_sum 83 = .ok (.aload_n 0, 1) := dk_42 (dk_at dksX21_sum_3 13 rfl rfl)
theorem dX21_sum_84 : decode cX21_sum 84 = .ok (.getfield 15, 3) := dk_180 0 15 (dk_at dksX21_sum_3 14 rfl rfl)
theorem dX21_sum_87 : decode cX21_sum 87 = .ok (.iadd, 1) := dk_96 (dk_at dksX21_sum_3 17 rfl rfl)
theorem dX21_sum_88 : decode cX21_sum 88 = .ok (.istore 5, 2) := dk_54 5 (dk_at dksX21_sum_3 18 rfl rfl)
theorem dX21_sum_90 : decode cX21_sum 90 = .ok (.goto (-79), 3) := dk_167 255 177 (dk_at dksX21_sum_3 20 rfl rfl)
theorem dX21_sum_93 : decode cX21_sum 93 = .ok (.aload_n 0, 1) := dk_42 (dk_at dksX21_sum_3 23 rfl rfl)
theorem dX21_sum_94 : decode cX21_sum 94 = .ok (.getfield 9, 3) := dk_180 0 9 (dk_at dksX21_sum_4 0 rfl rfl)
theorem dX21_sum_97 : decode cX21_sum 97 = .ok (.iconst 0, 1) := dk_3 (dk_at dksX21_sum_4 3 rfl rfl)
theorem dX21_sum_98 : decode cX21_sum 98 = .ok (.daload, 1) := dk_49 (dk_at dksX21_sum_4 4 rfl rfl)
theorem dX21_sum_99 : decode cX21_sum 99 = .ok (.dstore 5, 2) := dk_57 5 (dk_at dksX21_sum_4 5 rfl rfl)
theorem dX21_sum_101 : decode cX21_sum 101 = .ok (.iconst 1, 1) := dk_4 (dk_at dksX21_sum_4 7 rfl rfl)
theorem dX21_sum_102 : decode cX21_sum 102 = .ok (.istore 7, 2) := dk_54 7 (dk_at dksX21_sum_4 8 rfl rfl)
theorem dX21_sum_104 : decode cX21_sum 104 = .ok (.iload 7, 2) := dk_21 7 (dk_at dksX21_sum_4 10 rfl rfl)
theorem dX21_sum_106 : decode cX21_sum 106 = .ok (.iload 4, 2) := dk_21 4 (dk_at dksX21_sum_4 12 rfl rfl)
theorem dX21_sum_108 : decode cX21_sum 108 = .ok (.if_icmp .ge 26, 3) := dk_162 0 26 (dk_at dksX21_sum_4 14 rfl rfl)
theorem dX21_sum_111 : decode cX21_sum 111 = .ok (.aload_n 0, 1) := dk_42 (dk_at dksX21_sum_4 17 rfl rfl)
theorem dX21_sum_112 : decode cX21_sum 112 = .ok (.aload_n 1, 1) := dk_43 (dk_at dksX21_sum_4 18 rfl rfl)
theorem dX21_sum_113 : decode cX21_sum 113 = .ok (.dload 5, 2) := dk_24 5 (dk_at dksX21_sum_4 19 rfl rfl)
theorem dX21_sum_115 : decode cX21_sum 115 = .ok (.aload_n 0, 1) := dk_42 (dk_at dksX21_sum_4 21 rfl rfl)
theorem dX21_sum_116 : decode cX21_sum 116 = .ok (.getfield 9, 3) := dk_180 0 9 (dk_at dksX21_sum_5 0 rfl rfl)
theorem dX21_sum_119 : decode cX21_sum 119 = .ok (.iload 7, 2) := dk_21 7 (dk_at dksX21_sum_5 3 rfl rfl)
theorem dX21_sum_121 : decode cX21_sum 121 = .ok (.daload, 1) := dk_49 (dk_at dksX21_sum_5 5 rfl rfl)
theorem dX21_sum_122 : decode cX21_sum 122 = .ok (.aload_n 2, 1) := dk_44 (dk_at dksX21_sum_5 6 rfl rfl)
theorem dX21_sum_123 : decode cX21_sum 123 = .ok (.invokevirtual 35, 3) := dk_182 0 35 (dk_at dksX21_sum_5 7 rfl rfl)
theorem dX21_sum_126 : decode cX21_sum 126 = .ok (.dstore 5, 2) := dk_57 5 (dk_at dksX21_sum_5 10 rfl rfl)
theorem dX21_sum_128 : decode cX21_sum 128 = .ok (.iinc 7 1, 3) := dk_132 7 1 (dk_at dksX21_sum_5 12 rfl rfl)
theorem dX21_sum_131 : decode cX21_sum 131 = .ok (.goto (-27), 3) := dk_167 255 229 (dk_at dksX21_sum_5 15 rfl rfl)
theorem dX21_sum_134 : decode cX21_sum 134 = .ok (.dload 5, 2) := dk_24 5 (dk_at dksX21_sum_5 18 rfl rfl)
theorem dX21_sum_136 : decode cX21_sum 136 = .ok (.dreturn, 1) := dk_175 (dk_at dksX21_sum_5 20 rfl rfl)
theorem q102 : (Jvm.Cond.initialized "RoundingAuditor$Blocks") ∈ lw_all := lw_g (lw_at lw_m1 38 rfl) rfl
theorem q1070 : (Jvm.Cond.instantiable "RoundingAuditor$Blocks" (2 : Nat)) ∈ lw_all := lw_g (lw_at lw_m5 46 rfl) rfl
theorem q1072 : (Jvm.Cond.instanceMethod ({ cls := "RoundingAuditor$Blocks", name := "<init>", desc := "(I)V" } : Jvm.MethodName)) ∈ lw_all := lw_g (lw_at lw_m5 48 rfl) rfl
theorem q1073 : (Jvm.Cond.code ({ cls := "RoundingAuditor$Blocks", name := "<init>", desc := "(I)V" } : Jvm.MethodName) prog_3_method_1_code (2 : Nat) (Option.none : Option Jvm.ClassFile.FieldType)) ∈ lw_all := lw_g (lw_at lw_m5 49 rfl) rfl
theorem q1074 : (Jvm.Cond.methodLinkNest "RoundingAuditor$Blocks" (3 : Nat) ({ cls := "RoundingAuditor$Way", name := "<init>", desc := "()V" } : Jvm.MethodName) "RoundingAuditor") ∈ lw_tbl := lw_at lw_m5 50 rfl
theorem q1075 : (Jvm.Cond.fieldLink "RoundingAuditor$Blocks" (15 : Nat) "RoundingAuditor$Blocks" "a" "I") ∈ lw_all := lw_g (lw_at lw_m5 51 rfl) rfl
theorem q1076 : (Jvm.Cond.fieldLink "RoundingAuditor$Blocks" (9 : Nat) "RoundingAuditor$Blocks" "totals" "[D") ∈ lw_all := lw_g (lw_at lw_m5 52 rfl) rfl
theorem q1077 : (Jvm.Cond.laysFinal "RoundingAuditor$Blocks" "RoundingAuditor$Blocks" "a" "I") ∈ lw_all := lw_g (lw_at lw_m5 53 rfl) rfl
theorem q1078 : (Jvm.Cond.soleField "RoundingAuditor$Blocks" "a") ∈ lw_all := lw_g (lw_at lw_m5 54 rfl) rfl
theorem q1079 : (Jvm.Cond.laysFinal "RoundingAuditor$Blocks" "RoundingAuditor$Blocks" "totals" "[D") ∈ lw_all := lw_g (lw_at lw_m5 55 rfl) rfl
theorem q1080 : (Jvm.Cond.soleField "RoundingAuditor$Blocks" "totals") ∈ lw_all := lw_g (lw_at lw_m5 56 rfl) rfl
theorem q1081 : (Jvm.Cond.superclass "RoundingAuditor$Blocks" "RoundingAuditor$Way") ∈ lw_all := lw_g (lw_at lw_m5 57 rfl) rfl
theorem q1113 : (Jvm.Cond.selects "RoundingAuditor$Blocks" ({ cls := "RoundingAuditor$Way", name := "total", desc := "(LRoundingAuditor$Ledger;LRoundingAuditor$Tape;)D" } : Jvm.MethodName) ({ cls := "RoundingAuditor$Way", name := "total", desc := "(LRoundingAuditor$Ledger;LRoundingAuditor$Tape;)D" } : Jvm.MethodName)) ∈ lw_all := lw_g (lw_at lw_m5 89 rfl) rfl
theorem q1132 : (Jvm.Cond.selects "RoundingAuditor$Blocks" ({ cls := "RoundingAuditor$Way", name := "sum", desc := "(LRoundingAuditor$Ledger;LRoundingAuditor$Tape;)D" } : Jvm.MethodName) ({ cls := "RoundingAuditor$Blocks", name := "sum", desc := "(LRoundingAuditor$Ledger;LRoundingAuditor$Tape;)D" } : Jvm.MethodName)) ∈ lw_all := lw_g (lw_at lw_m5 108 rfl) rfl
theorem q1133 : (Jvm.Cond.instanceMethod ({ cls := "RoundingAuditor$Blocks", name := "sum", desc := "(LRoundingAuditor$Ledger;LRoundingAuditor$Tape;)D" } : Jvm.MethodName)) ∈ lw_all := lw_g (lw_at lw_m5 109 rfl) rfl
theorem q1134 : (Jvm.Cond.code ({ cls := "RoundingAuditor$Blocks", name := "sum", desc := "(LRoundingAuditor$Ledger;LRoundingAuditor$Tape;)D" } : Jvm.MethodName) prog_3_method_2_code (9 : Nat) (Option.some Jvm.ClassFile.FieldType.double)) ∈ lw_all := lw_g (lw_at lw_m5 110 rfl) rfl
theorem q1135 : (Jvm.Cond.methodLink "RoundingAuditor$Blocks" (19 : Nat) ({ cls := "RoundingAuditor$Ledger", name := "length", desc := "()I" } : Jvm.MethodName)) ∈ lw_all := lw_g (lw_at lw_m5 111 rfl) rfl
theorem q1136 : (Jvm.Cond.methodLink "RoundingAuditor$Blocks" (25 : Nat) ({ cls := "RoundingAuditor$Ledger", name := "at", desc := "(I)D" } : Jvm.MethodName)) ∈ lw_all := lw_g (lw_at lw_m5 112 rfl) rfl
theorem q1137 : (Jvm.Cond.methodLink "RoundingAuditor$Blocks" (29 : Nat) ({ cls := "java/lang/Math", name := "min", desc := "(II)I" } : Jvm.MethodName)) ∈ lw_all := lw_g (lw_at lw_m5 113 rfl) rfl
theorem q1140 : (Jvm.Cond.methodLink "RoundingAuditor$Blocks" (35 : Nat) ({ cls := "RoundingAuditor$Blocks", name := "add", desc := "(LRoundingAuditor$Ledger;DDLRoundingAuditor$Tape;)D" } : Jvm.MethodName)) ∈ lw_all := lw_g (lw_at lw_m5 116 rfl) rfl
theorem q1141 : (Jvm.Cond.sameMethod "RoundingAuditor$Blocks" "RoundingAuditor$Way" "add" "(LRoundingAuditor$Ledger;DDLRoundingAuditor$Tape;)D") ∈ lw_all := lw_g (lw_at lw_m5 117 rfl) rfl
theorem q1143 : (Jvm.Cond.selects "RoundingAuditor$Blocks" ({ cls := "RoundingAuditor$Blocks", name := "add", desc := "(LRoundingAuditor$Ledger;DDLRoundingAuditor$Tape;)D" } : Jvm.MethodName) ({ cls := "RoundingAuditor$Way", name := "add", desc := "(LRoundingAuditor$Ledger;DDLRoundingAuditor$Tape;)D" } : Jvm.MethodName)) ∈ lw_all := lw_g (lw_at lw_m5 119 rfl) rfl
theorem q1330 : (Jvm.Cond.selects "RoundingAuditor$Blocks" ({ cls := "java/lang/Object", name := "getClass", desc := "()Ljava/lang/Class;" } : Jvm.MethodName) ({ cls := "java/lang/Object", name := "getClass", desc := "()Ljava/lang/Class;" } : Jvm.MethodName)) ∈ lw_all := lw_g (lw_at lw_m6 66 rfl) rfl
theorem q2076 : (Jvm.Cond.castable "RoundingAuditor$Blocks" "java/lang/Object") ∈ lw_tbl := lw_at lw_m9 92 rfl
theorem in_X21 : ∀ w ∈ wsX210, w ∈ lw_all := lw_in wsX210 [1077, 1079] (by decide +kernel) (by decide +kernel)

/-! RoundingAuditor$Queue -/
set_option maxRecDepth 100000
def RX22 : String := "RoundingAuditor$Queue"
def TX22 : u_T := fun k => match k with
  | 0 => ("RoundingAuditor$Queue", "waiting", "[D", true)
  | _ => ("RoundingAuditor$Queue", "isGone", "[Z", true)
def tyX22 : Nat → FieldType := fun k => match k with
  | 0 => .array .double
  | _ => .array .boolean
abbrev wsX220 : List Cond := u_ws RX22 TX22 2
theorem nmX22 : ∀ a, a < 2 → ∀ b, b < 2 → a ≠ b → (TX22 a).2.1 ≠ (TX22 b).2.1 := by decide +kernel
theorem tyX22_ok : ∀ k, k < 2 → parseFieldDescriptor (TX22 k).2.2.1 = some (tyX22 k) := by decide +kernel
abbrev cX22_init : ByteArray := prog_20_method_1_code
def yX22_init : MethodName := ⟨RX22, "<init>", "()V"⟩
def dkwX22_init_0 : List UInt8 := [42, 183, 0, 3, 42, 16, 120, 188, 7, 181, 0, 9, 42, 16, 120, 188, 4, 181, 0, 15, 177]
abbrev dktX22_init_0 : List UInt8 := dkwX22_init_0 ++ []
theorem dksX22_init_0 : cX22_init.data.toList.drop 0 = dktX22_init_0 := by decide +kernel
theorem dX22_init_0 : decode cX22_init 0 = .ok (.aload_n 0, 1) := dk_42 (dk_at dksX22_init_0 0 rfl rfl)
theorem dX22_init_1 : decode cX22_init 1 = .ok (.invokespecial 3, 3) := dk_183 0 3 (dk_at dksX22_init_0 1 rfl rfl)
theorem dX22_init_4 : decode cX22_init 4 = .ok (.aload_n 0, 1) := dk_42 (dk_at dksX22_init_0 4 rfl rfl)
theorem dX22_init_5 : decode cX22_init 5 = .ok (.bipush 120, 2) := dk_16 120 (dk_at dksX22_init_0 5 rfl rfl)
theorem dX22_init_7 : decode cX22_init 7 = .ok (.newarray .double, 2) := dk_188_7 (dk_at dksX22_init_0 7 rfl rfl)
theorem dX22_init_9 : decode cX22_init 9 = .ok (.putfield 9, 3) := dk_181 0 9 (dk_at dksX22_init_0 9 rfl rfl)
theorem dX22_init_12 : decode cX22_init 12 = .ok (.aload_n 0, 1) := dk_42 (dk_at dksX22_init_0 12 rfl rfl)
theorem dX22_init_13 : decode cX22_init 13 = .ok (.bipush 120, 2) := dk_16 120 (dk_at dksX22_init_0 13 rfl rfl)
theorem dX22_init_15 : decode cX22_init 15 = .ok (.newarray .boolean, 2) := dk_188_4 (dk_at dksX22_init_0 15 rfl rfl)
theorem dX22_init_17 : decode cX22_init 17 = .ok (.putfield 15, 3) := dk_181 0 15 (dk_at dksX22_init_0 17 rfl rfl)
theorem dX22_init_20 : decode cX22_init 20 = .ok (.return_, 1) := dk_177 (dk_at dksX22_init_0 20 rfl rfl)
abbrev cX22_sum : ByteArray := prog_20_method_3_code
def yX22_sum : MethodName := ⟨RX22, "sum", "(LRoundingAuditor$Ledger;LRoundingAuditor$Tape;)D"⟩
def dkwX22_sum_4 : List UInt8 := [132, 5, 1, 167, 255, 201, 42, 180, 0, 9, 21, 4, 4, 100, 49, 175]
abbrev dktX22_sum_4 : List UInt8 := dkwX22_sum_4 ++ []
def dkwX22_sum_3 : List UInt8 := [57, 8, 42, 180, 0, 9, 21, 4, 42, 43, 24, 6, 24, 8, 44, 182, 0, 39, 82, 132, 4, 1]
abbrev dktX22_sum_3 : List UInt8 := dkwX22_sum_3 ++ dktX22_sum_4
def dkwX22_sum_2 : List UInt8 := [180, 0, 9, 42, 21, 4, 182, 0, 35, 49, 57, 6, 42, 180, 0, 9, 42, 21, 4, 182, 0, 35, 49]
abbrev dktX22_sum_2 : List UInt8 := dkwX22_sum_2 ++ dktX22_sum_3
def dkwX22_sum_1 : List UInt8 := [182, 0, 31, 82, 132, 4, 1, 167, 255, 234, 29, 54, 4, 4, 54, 5, 21, 5, 29, 162, 0, 55, 42]
abbrev dktX22_sum_1 : List UInt8 := dkwX22_sum_1 ++ dktX22_sum_2
def dkwX22_sum_0 : List UInt8 := [43, 182, 0, 25, 62, 3, 54, 4, 21, 4, 29, 162, 0, 22, 42, 180, 0, 9, 21, 4, 43, 21, 4]
abbrev dktX22_sum_0 : List UInt8 := dkwX22_sum_0 ++ dktX22_sum_1
theorem dksX22_sum_0 : cX22_sum.data.toList.drop 0 = dktX22_sum_0 := by decide +kernel
theorem dksX22_sum_1 : cX22_sum.data.toList.drop 23 = dktX22_sum_1 := dk_seg dksX22_sum_0 23 rfl rfl
theorem dksX22_sum_2 : cX22_sum.data.toList.drop 46 = dktX22_sum_2 := dk_seg dksX22_sum_1 23 rfl rfl
theorem dksX22_sum_3 : cX22_sum.data.toList.drop 69 = dktX22_sum_3 := dk_seg dksX22_sum_2 23 rfl rfl
theorem dksX22_sum_4 : cX22_sum.data.toList.drop 91 = dktX22_sum_4 := dk_seg dksX22_sum_3 22 rfl rfl
theorem dX22_sum_0 : decode cX22_sum 0 = .ok (.aload_n 1, 1) := dk_43 (dk_at dksX22_sum_0 0 rfl rfl)
theorem dX22_sum_1 : decode cX22_sum 1 = .ok (.invokevirtual 25, 3) := dk_182 0 25 (dk_at dksX22_sum_0 1 rfl rfl)
theorem dX22_sum_4 : decode cX22_sum 4 = .ok (.istore_n 3, 1) := dk_62 (dk_at dksX22_sum_0 4 rfl rfl)
theorem dX22_sum_5 : decode cX22_sum 5 = .ok (.iconst 0, 1) := dk_3 (dk_at dksX22_sum_0 5 rfl rfl)
theorem dX22_sum_6 : decode cX22_sum 6 = .ok (.istore 4, 2) := dk_54 4 (dk_at dksX22_sum_0 6 rfl rfl)
theorem dX22_sum_8 : decode cX22_sum 8 = .ok (.iload 4, 2) := dk_21 4 (dk_at dksX22_sum_0 8 rfl rfl)
theorem dX22_sum_10 : decode cX22_sum 10 = .ok (.iload_n 3, 1) := dk_29 (dk_at dksX22_sum_0 10 rfl rfl)
theorem dX22_sum_11 : decode cX22_sum 11 = .ok (.if_icmp .ge 22, 3) := dk_162 0 22 (dk_at dksX22_sum_0 11 rfl rfl)
theorem dX22_sum_14 : decode cX22_sum 14 = .ok (.aload_n 0, 1) := dk_42 (dk_at dksX22_sum_0 14 rfl rfl)
theorem dX22_sum_15 : decode cX22_sum 15 = .ok (.getfield 9, 3) := dk_180 0 9 (dk_at dksX22_sum_0 15 rfl rfl)
theorem dX22_sum_18 : decode cX22_sum 18 = .ok (.iload 4, 2) := dk_21 4 (dk_at dksX22_sum_0 18 rfl rfl)
theorem dX22_sum_20 : decode cX22_sum 20 = .ok (.aload_n 1, 1) := dk_43 (dk_at dksX22_sum_0 20 rfl rfl)
theorem dX22_sum_21 : decode cX22_sum 21 = .ok (.iload 4, 2) := dk_21 4 (dk_at dksX22_sum_0 21 rfl rfl)
theorem dX22_sum_23 : decode cX22_sum 23 = .ok (.invokevirtual 31, 3) := dk_182 0 31 (dk_at dksX22_sum_1 0 rfl rfl)
theorem dX22_sum_26 : decode cX22_sum 26 = .ok (.dastore, 1) := dk_82 (dk_at dksX22_sum_1 3 rfl rfl)
theorem dX22_sum_27 : decode cX22_sum 27 = .ok (.iinc 4 1, 3) := dk_132 4 1 (dk_at dksX22_sum_1 4 rfl rfl)
theorem dX22_sum_30 : decode cX22_sum 30 = .ok (.goto (-22), 3) := dk_167 255 234 (dk_at dksX22_sum_1 7 rfl rfl)
theorem dX22_sum_33 : decode cX22_sum 33 = .ok (.iload_n 3, 1) := dk_29 (dk_at dksX22_sum_1 10 rfl rfl)
theorem dX22_sum_34 : decode cX22_sum 34 = .ok (.istore 4, 2) := dk_54 4 (dk_at dksX22_sum_1 11 rfl rfl)
theorem dX22_sum_36 : decode cX22_sum 36 = .ok (.iconst 1, 1) := dk_4 (dk_at dksX22_sum_1 13 rfl rfl)
theorem dX22_sum_37 : decode cX22_sum 37 = .ok (.istore 5, 2) := dk_54 5 (dk_at dksX22_sum_1 14 rfl rfl)
theorem dX22_sum_39 : decode cX22_sum 39 = .ok (.iload 5, 2) := dk_21 5 (dk_at dksX22_sum_1 16 rfl rfl)
theorem dX22_sum_41 : decode cX22_sum 41 = .ok (.iload_n 3, 1) := dk_29 (dk_at dksX22_sum_1 18 rfl rfl)
theorem dX22_sum_42 : decode cX22_sum 42 = .ok (.if_icmp .ge 55, 3) := dk_162 0 55 (dk_at dksX22_sum_1 19 rfl rfl)
theorem dX22_sum_45 : decode cX22_sum 45 = .ok (.aload_n 0, 1) := dk_42 (dk_at dksX22_sum_1 22 rfl rfl)
theorem dX22_sum_46 : decode cX22_sum 46 = .ok (.getfield 9, 3) := dk_180 0 9 (dk_at dksX22_sum_2 0 rfl rfl)
theorem dX22_sum_49 : decode cX22_sum 49 = .ok (.aload_n 0, 1) := dk_42 (dk_at dksX22_sum_2 3 rfl rfl)
theorem dX22_sum_50 : decode cX22_sum 50 = .ok (.iload 4, 2) := dk_21 4 (dk_at dksX22_sum_2 4 rfl rfl)
theorem dX22_sum_52 : decode cX22_sum 52 = .ok (.invokevirtual 35, 3) := dk_182 0 35 (dk_at dksX22_sum_2 6 rfl rfl)
theorem dX22_sum_55 : decode cX22_sum 55 = .ok (.daload, 1) := dk_49 (dk_at dksX22_sum_2 9 rfl rfl)
theorem dX22_sum_56 : decode cX22_sum 56 = .ok (.dstore 6, 2) := dk_57 6 (dk_at dksX22_sum_2 10 rfl rfl)
theorem dX22_sum_58 : decode cX22_sum 58 = .ok (.aload_n 0, 1) := dk_42 (dk_at dksX22_sum_2 12 rfl rfl)
theorem dX22_sum_59 : decode cX22_sum 59 = .ok (.getfield 9, 3) := dk_180 0 9 (dk_at dksX22_sum_2 13 rfl rfl)
theorem dX22_sum_62 : decode cX22_sum 62 = .ok (.aload_n 0, 1) := dk_42 (dk_at dksX22_sum_2 16 rfl rfl)
theorem dX22_sum_63 : decode cX22_sum 63 = .ok (.iload 4, 2) := dk_21 4 (dk_at dksX22_sum_2 17 rfl rfl)
theorem dX22_sum_65 : decode cX22_sum 65 = .ok (.invokevirtual 35, 3) := dk_182 0 35 (dk_at dksX22_sum_2 19 rfl rfl)
theorem dX22_sum_68 : decode cX22_sum 68 = .ok (.daload, 1) := dk_49 (dk_at dksX22_sum_2 22 rfl rfl)
theorem dX22_sum_69 : decode cX22_sum 69 = .ok (.dstore 8, 2) := dk_57 8 (dk_at dksX22_sum_3 0 rfl rfl)
theorem dX22_sum_71 : decode cX22_sum 71 = .ok (.aload_n 0, 1) := dk_42 (dk_at dksX22_sum_3 2 rfl rfl)
theorem dX22_sum_72 : decode cX22_sum 72 = .ok (.getfield 9, 3) := dk_180 0 9 (dk_at dksX22_sum_3 3 rfl rfl)
theorem dX22_sum_75 : decode cX22_sum 75 = .ok (.iload 4, 2) := dk_21 4 (dk_at dksX22_sum_3 6 rfl rfl)
theorem dX22_sum_77 : decode cX22_sum 77 = .ok (.aload_n 0, 1) := dk_42 (dk_at dksX22_sum_3 8 rfl rfl)
theorem dX22_sum_78 : decode cX22_sum 78 = .ok (.aload_n 1, 1) := dk_43 (dk_at dksX22_sum_3 9 rfl rfl)
theorem dX22_sum_79 : decode cX22_sum 79 = .ok (.dload 6, 2) := dk_24 6 (dk_at dksX22_sum_3 10 rfl rfl)
theorem dX22_sum_81 : decode cX22_sum 81 = .ok (.dload 8, 2) := dk_24 8 (dk_at dksX22_sum_3 12 rfl rfl)
theorem dX22_sum_83 : decode cX22_sum 83 = .ok (.aload_n 2, 1) := dk_44 (dk_at dksX22_sum_3 14 rfl rfl)
theorem dX22_sum_84 : decode cX22_sum 84 = .ok (.invokevirtual 39, 3) := dk_182 0 39 (dk_at dksX22_sum_3 15 rfl rfl)
theorem dX22_sum_87 : decode cX22_sum 87 = .ok (.dastore, 1) := dk_82 (dk_at dksX22_sum_3 18 rfl rfl)
theorem dX22_sum_88 : decode cX22_sum 88 = .ok (.iinc 4 1, 3) := dk_132 4 1 (dk_at dksX22_sum_3 19 rfl rfl)
theorem dX22_sum_91 : decode cX22_sum 91 = .ok (.iinc 5 1, 3) := dk_132 5 1 (dk_at dksX22_sum_4 0 rfl rfl)
theorem dX22_sum_94 : decode cX22_sum 94 = .ok (.goto (-55), 3) := dk_167 255 201 (dk_at dksX22_sum_4 3 rfl rfl)
theorem dX22_sum_97 : decode cX22_sum 97 = .ok (.aload_n 0, 1) := dk_42 (dk_at dksX22_sum_4 6 rfl rfl)
theorem dX22_sum_98 : decode cX22_sum 98 = .ok (.getfield 9, 3) := dk_180 0 9 (dk_at dksX22_sum_4 7 rfl rfl)
theorem dX22_sum_101 : decode cX22_sum 101 = .ok (.iload 4, 2) := dk_21 4 (dk_at dksX22_sum_4 10 rfl rfl)
theorem dX22_sum_103 : decode cX22_sum 103 = .ok (.iconst 1, 1) := dk_4 (dk_at dksX22_sum_4 12 rfl rfl)
theorem dX22_sum_104 : decode cX22_sum 104 = .ok (.isub, 1) := dk_100 (dk_at dksX22_sum_4 13 rfl rfl)
theorem dX22_sum_105 : decode cX22_sum 105 = .ok (.daload, 1) := dk_49 (dk_at dksX22_sum_4 14 rfl rfl)
theorem dX22_sum_106 : decode cX22_sum 106 = .ok (.dreturn, 1) := dk_175 (dk_at dksX22_sum_4 15 rfl rfl)
abbrev cX22_take : ByteArray := prog_20_method_2_code
def yX22_take : MethodName := ⟨RX22, "take", "(I)I"⟩
def dkwX22_take_2 : List UInt8 := [132, 3, 1, 167, 255, 210, 42, 180, 0, 15, 28, 4, 84, 28, 172]
abbrev dktX22_take_2 : List UInt8 := dkwX22_take_2 ++ []
def dkwX22_take_1 : List UInt8 := [180, 0, 9, 29, 49, 184, 0, 19, 42, 180, 0, 9, 28, 49, 184, 0, 19, 152, 156, 0, 5, 29, 61]
abbrev dktX22_take_1 : List UInt8 := dkwX22_take_1 ++ dktX22_take_2
def dkwX22_take_0 : List UInt8 := [2, 61, 3, 62, 29, 27, 162, 0, 47, 42, 180, 0, 15, 29, 51, 154, 0, 32, 28, 2, 159, 0, 25, 42]
abbrev dktX22_take_0 : List UInt8 := dkwX22_take_0 ++ dktX22_take_1
theorem dksX22_take_0 : cX22_take.data.toList.drop 0 = dktX22_take_0 := by decide +kernel
theorem dksX22_take_1 : cX22_take.data.toList.drop 24 = dktX22_take_1 := dk_seg dksX22_take_0 24 rfl rfl
theorem dksX22_take_2 : cX22_take.data.toList.drop 47 = dktX22_take_2 := dk_seg dksX22_take_1 23 rfl rfl
theorem dX22_take_0 : decode cX22_take 0 = .ok (.iconst (-1), 1) := dk_2 (dk_at dksX22_take_0 0 rfl rfl)
theorem dX22_take_1 : decode cX22_take 1 = .ok (.istore_n 2, 1) := dk_61 (dk_at dksX22_take_0 1 rfl rfl)
theorem dX22_take_2 : decode cX22_take 2 = .ok (.iconst 0, 1) := dk_3 (dk_at dksX22_take_0 2 rfl rfl)
theorem dX22_take_3 : decode cX22_take 3 = .ok (.istore_n 3, 1) := dk_62 (dk_at dksX22_take_0 3 rfl rfl)
theorem dX22_take_4 : decode cX22_take 4 = .ok (.iload_n 3, 1) := dk_29 (dk_at dksX22_take_0 4 rfl rfl)
theorem dX22_take_5 : decode cX22_take 5 = .ok (.iload_n 1, 1) := dk_27 (dk_at dksX22_take_0 5 rfl rfl)
theorem dX22_take_6 : decode cX22_take 6 = .ok (.if_icmp .ge 47, 3) := dk_162 0 47 (dk_at dksX22_take_0 6 rfl rfl)
theorem dX22_take_9 : decode cX22_take 9 = .ok (.aload_n 0, 1) := dk_42 (dk_at dksX22_take_0 9 rfl rfl)
theorem dX22_take_10 : decode cX22_take 10 = .ok (.getfield 15, 3) := dk_180 0 15 (dk_at dksX22_take_0 10 rfl rfl)
theorem dX22_take_13 : decode cX22_take 13 = .ok (.iload_n 3, 1) := dk_29 (dk_at dksX22_take_0 13 rfl rfl)
theorem dX22_take_14 : decode cX22_take 14 = .ok (.baload, 1) := dk_51 (dk_at dksX22_take_0 14 rfl rfl)
theorem dX22_take_15 : decode cX22_take 15 = .ok (.ifCond .ne 32, 3) := dk_154 0 32 (dk_at dksX22_take_0 15 rfl rfl)
theorem dX22_take_18 : decode cX22_take 18 = .ok (.iload_n 2, 1) := dk_28 (dk_at dksX22_take_0 18 rfl rfl)
theorem dX22_take_19 : decode cX22_take 19 = .ok (.iconst (-1), 1) := dk_2 (dk_at dksX22_take_0 19 rfl rfl)
theorem dX22_take_20 : decode cX22_take 20 = .ok (.if_icmp .eq 25, 3) := dk_159 0 25 (dk_at dksX22_take_0 20 rfl rfl)
theorem dX22_take_23 : decode cX22_take 23 = .ok (.aload_n 0, 1) := dk_42 (dk_at dksX22_take_0 23 rfl rfl)
theorem dX22_take_24 : decode cX22_take 24 = .ok (.getfield 9, 3) := dk_180 0 9 (dk_at dksX22_take_1 0 rfl rfl)
theorem dX22_take_27 : decode cX22_take 27 = .ok (.iload_n 3, 1) := dk_29 (dk_at dksX22_take_1 3 rfl rfl)
theorem dX22_take_28 : decode cX22_take 28 = .ok (.daload, 1) := dk_49 (dk_at dksX22_take_1 4 rfl rfl)
theorem dX22_take_29 : decode cX22_take 29 = .ok (.invokestatic 19, 3) := dk_184 0 19 (dk_at dksX22_take_1 5 rfl rfl)
theorem dX22_take_32 : decode cX22_take 32 = .ok (.aload_n 0, 1) := dk_42 (dk_at dksX22_take_1 8 rfl rfl)
theorem dX22_take_33 : decode cX22_take 33 = .ok (.getfield 9, 3) := dk_180 0 9 (dk_at dksX22_take_1 9 rfl rfl)
theorem dX22_take_36 : decode cX22_take 36 = .ok (.iload_n 2, 1) := dk_28 (dk_at dksX22_take_1 12 rfl rfl)
theorem dX22_take_37 : decode cX22_take 37 = .ok (.daload, 1) := dk_49 (dk_at dksX22_take_1 13 rfl rfl)
theorem dX22_take_38 : decode cX22_take 38 = .ok (.invokestatic 19, 3) := dk_184 0 19 (dk_at dksX22_take_1 14 rfl rfl)
theorem dX22_take_41 : decode cX22_take 41 = .ok (.dcmp .g, 1) := dk_152 (dk_at dksX22_take_1 17 rfl rfl)
theorem dX22_take_42 : decode cX22_take 42 = .ok (.ifCond .ge 5, 3) := dk_156 0 5 (dk_at dksX22_take_1 18 rfl rfl)
theorem dX22_take_45 : decode cX22_take 45 = .ok (.iload_n 3, 1) := dk_29 (dk_at dksX22_take_1 21 rfl rfl)
theorem dX22_take_46 : decode cX22_take 46 = .ok (.istore_n 2, 1) := dk_61 (dk_at dksX22_take_1 22 rfl rfl)
theorem dX22_take_47 : decode cX22_take 47 = .ok (.iinc 3 1, 3) := dk_132 3 1 (dk_at dksX22_take_2 0 rfl rfl)
theorem dX22_take_50 : decode cX22_take 50 = .ok (.goto (-46), 3) := dk_167 255 210 (dk_at dksX22_take_2 3 rfl rfl)
theorem dX22_take_53 : decode cX22_take 53 = .ok (.aload_n 0, 1) := dk_42 (dk_at dksX22_take_2 6 rfl rfl)
theorem dX22_take_54 : decode cX22_take 54 = .ok (.getfield 15, 3) := dk_180 0 15 (dk_at dksX22_take_2 7 rfl rfl)
theorem dX22_take_57 : decode cX22_take 57 = .ok (.iload_n 2, 1) := dk_28 (dk_at dksX22_take_2 10 rfl rfl)
theorem dX22_take_58 : decode cX22_take 58 = .ok (.iconst 1, 1) := dk_4 (dk_at dksX22_take_2 11 rfl rfl)
theorem dX22_take_59 : decode cX22_take 59 = .ok (.bastore, 1) := dk_84 (dk_at dksX22_take_2 12 rfl rfl)
theorem dX22_take_60 : decode cX22_take 60 = .ok (.iload_n 2, 1) := dk_28 (dk_at dksX22_take_2 13 rfl rfl)
theorem dX22_take_61 : decode cX22_take 61 = .ok (.ireturn, 1) := dk_172 (dk_at dksX22_take_2 14 rfl rfl)
theorem q103 : (Jvm.Cond.initialized "RoundingAuditor$Queue") ∈ lw_all := lw_g (lw_at lw_m1 39 rfl) rfl
theorem q1083 : (Jvm.Cond.instantiable "RoundingAuditor$Queue" (2 : Nat)) ∈ lw_all := lw_g (lw_at lw_m5 59 rfl) rfl
theorem q1085 : (Jvm.Cond.instanceMethod ({ cls := "RoundingAuditor$Queue", name := "<init>", desc := "()V" } : Jvm.MethodName)) ∈ lw_all := lw_g (lw_at lw_m5 61 rfl) rfl
theorem q1086 : (Jvm.Cond.code ({ cls := "RoundingAuditor$Queue", name := "<init>", desc := "()V" } : Jvm.MethodName) prog_20_method_1_code (1 : Nat) (Option.none : Option Jvm.ClassFile.FieldType)) ∈ lw_all := lw_g (lw_at lw_m5 62 rfl) rfl
theorem q1087 : (Jvm.Cond.methodLinkNest "RoundingAuditor$Queue" (3 : Nat) ({ cls := "RoundingAuditor$Way", name := "<init>", desc := "()V" } : Jvm.MethodName) "RoundingAuditor") ∈ lw_tbl := lw_at lw_m5 63 rfl
theorem q1088 : (Jvm.Cond.fieldLink "RoundingAuditor$Queue" (9 : Nat) "RoundingAuditor$Queue" "waiting" "[D") ∈ lw_all := lw_g (lw_at lw_m5 64 rfl) rfl
theorem q1089 : (Jvm.Cond.fieldLink "RoundingAuditor$Queue" (15 : Nat) "RoundingAuditor$Queue" "isGone" "[Z") ∈ lw_all := lw_g (lw_at lw_m5 65 rfl) rfl
theorem q1090 : (Jvm.Cond.laysFinal "RoundingAuditor$Queue" "RoundingAuditor$Queue" "waiting" "[D") ∈ lw_all := lw_g (lw_at lw_m5 66 rfl) rfl
theorem q1091 : (Jvm.Cond.soleField "RoundingAuditor$Queue" "waiting") ∈ lw_all := lw_g (lw_at lw_m5 67 rfl) rfl
theorem q1092 : (Jvm.Cond.laysFinal "RoundingAuditor$Queue" "RoundingAuditor$Queue" "isGone" "[Z") ∈ lw_all := lw_g (lw_at lw_m5 68 rfl) rfl
theorem q1093 : (Jvm.Cond.soleField "RoundingAuditor$Queue" "isGone") ∈ lw_all := lw_g (lw_at lw_m5 69 rfl) rfl
theorem q1094 : (Jvm.Cond.superclass "RoundingAuditor$Queue" "RoundingAuditor$Way") ∈ lw_all := lw_g (lw_at lw_m5 70 rfl) rfl
theorem q1124 : (Jvm.Cond.selects "RoundingAuditor$Queue" ({ cls := "RoundingAuditor$Way", name := "total", desc := "(LRoundingAuditor$Ledger;LRoundingAuditor$Tape;)D" } : Jvm.MethodName) ({ cls := "RoundingAuditor$Way", name := "total", desc := "(LRoundingAuditor$Ledger;LRoundingAuditor$Tape;)D" } : Jvm.MethodName)) ∈ lw_all := lw_g (lw_at lw_m5 100 rfl) rfl
theorem q1280 : (Jvm.Cond.selects "RoundingAuditor$Queue" ({ cls := "RoundingAuditor$Way", name := "sum", desc := "(LRoundingAuditor$Ledger;LRoundingAuditor$Tape;)D" } : Jvm.MethodName) ({ cls := "RoundingAuditor$Queue", name := "sum", desc := "(LRoundingAuditor$Ledger;LRoundingAuditor$Tape;)D" } : Jvm.MethodName)) ∈ lw_all := lw_g (lw_at lw_m6 16 rfl) rfl
theorem q1281 : (Jvm.Cond.instanceMethod ({ cls := "RoundingAuditor$Queue", name := "sum", desc := "(LRoundingAuditor$Ledger;LRoundingAuditor$Tape;)D" } : Jvm.MethodName)) ∈ lw_all := lw_g (lw_at lw_m6 17 rfl) rfl
theorem q1282 : (Jvm.Cond.code ({ cls := "RoundingAuditor$Queue", name := "sum", desc := "(LRoundingAuditor$Ledger;LRoundingAuditor$Tape;)D" } : Jvm.MethodName) prog_20_method_3_code (10 : Nat) (Option.some Jvm.ClassFile.FieldType.double)) ∈ lw_all := lw_g (lw_at lw_m6 18 rfl) rfl
theorem q1283 : (Jvm.Cond.methodLink "RoundingAuditor$Queue" (25 : Nat) ({ cls := "RoundingAuditor$Ledger", name := "length", desc := "()I" } : Jvm.MethodName)) ∈ lw_all := lw_g (lw_at lw_m6 19 rfl) rfl
theorem q1284 : (Jvm.Cond.methodLink "RoundingAuditor$Queue" (31 : Nat) ({ cls := "RoundingAuditor$Ledger", name := "at", desc := "(I)D" } : Jvm.MethodName)) ∈ lw_all := lw_g (lw_at lw_m6 20 rfl) rfl
theorem q1285 : (Jvm.Cond.methodLink "RoundingAuditor$Queue" (35 : Nat) ({ cls := "RoundingAuditor$Queue", name := "take", desc := "(I)I" } : Jvm.MethodName)) ∈ lw_all := lw_g (lw_at lw_m6 21 rfl) rfl
theorem q1286 : (Jvm.Cond.privateMethod ({ cls := "RoundingAuditor$Queue", name := "take", desc := "(I)I" } : Jvm.MethodName)) ∈ lw_tbl := lw_at lw_m6 22 rfl
theorem q1287 : (Jvm.Cond.instanceMethod ({ cls := "RoundingAuditor$Queue", name := "take", desc := "(I)I" } : Jvm.MethodName)) ∈ lw_all := lw_g (lw_at lw_m6 23 rfl) rfl
theorem q1288 : (Jvm.Cond.code ({ cls := "RoundingAuditor$Queue", name := "take", desc := "(I)I" } : Jvm.MethodName) prog_20_method_2_code (4 : Nat) (Option.some Jvm.ClassFile.FieldType.int)) ∈ lw_all := lw_g (lw_at lw_m6 24 rfl) rfl
theorem q1289 : (Jvm.Cond.methodLink "RoundingAuditor$Queue" (19 : Nat) ({ cls := "java/lang/Math", name := "abs", desc := "(D)D" } : Jvm.MethodName)) ∈ lw_all := lw_g (lw_at lw_m6 25 rfl) rfl
theorem q1290 : (Jvm.Cond.methodLink "RoundingAuditor$Queue" (39 : Nat) ({ cls := "RoundingAuditor$Queue", name := "add", desc := "(LRoundingAuditor$Ledger;DDLRoundingAuditor$Tape;)D" } : Jvm.MethodName)) ∈ lw_all := lw_g (lw_at lw_m6 26 rfl) rfl
theorem q1291 : (Jvm.Cond.sameMethod "RoundingAuditor$Queue" "RoundingAuditor$Way" "add" "(LRoundingAuditor$Ledger;DDLRoundingAuditor$Tape;)D") ∈ lw_all := lw_g (lw_at lw_m6 27 rfl) rfl
theorem q1292 : (Jvm.Cond.selects "RoundingAuditor$Queue" ({ cls := "RoundingAuditor$Queue", name := "add", desc := "(LRoundingAuditor$Ledger;DDLRoundingAuditor$Tape;)D" } : Jvm.MethodName) ({ cls := "RoundingAuditor$Way", name := "add", desc := "(LRoundingAuditor$Ledger;DDLRoundingAuditor$Tape;)D" } : Jvm.MethodName)) ∈ lw_all := lw_g (lw_at lw_m6 28 rfl) rfl
theorem q1345 : (Jvm.Cond.selects "RoundingAuditor$Queue" ({ cls := "java/lang/Object", name := "getClass", desc := "()Ljava/lang/Class;" } : Jvm.MethodName) ({ cls := "java/lang/Object", name := "getClass", desc := "()Ljava/lang/Class;" } : Jvm.MethodName)) ∈ lw_all := lw_g (lw_at lw_m6 81 rfl) rfl
theorem q2077 : (Jvm.Cond.castable "RoundingAuditor$Queue" "java/lang/Object") ∈ lw_tbl := lw_at lw_m9 93 rfl
theorem in_X22 : ∀ w ∈ wsX220, w ∈ lw_all := lw_in wsX220 [1090, 1092] (by decide +kernel) (by decide +kernel)

/-! RoundingAuditor$Carried -/
set_option maxRecDepth 100000
def RX23 : String := "RoundingAuditor$Carried"
abbrev cX23_init : ByteArray := prog_6_method_1_code
def yX23_init : MethodName := ⟨RX23, "<init>", "()V"⟩
theorem dX23_init_0 : decode cX23_init 0 = .ok (.aload_n 0, 1) := by decide +kernel
theorem dX23_init_1 : decode cX23_init 1 = .ok (.invokespecial 1, 3) := by decide +kernel
theorem dX23_init_4 : decode cX23_init 4 = .ok (.return_, 1) := by decide +kernel
abbrev cX23_sum : ByteArray := prog_6_method_2_code
def yX23_sum : MethodName := ⟨RX23, "sum", "(LRoundingAuditor$Ledger;LRoundingAuditor$Tape;)D"⟩
def dkwX23_sum_3 : List UInt8 := [57, 6, 24, 11, 57, 4, 132, 8, 1, 167, 255, 192, 24, 4, 175]
abbrev dktX23_sum_3 : List UInt8 := dkwX23_sum_3 ++ []
def dkwX23_sum_2 : List UInt8 := [182, 0, 23, 57, 11, 45, 45, 24, 11, 24, 4, 185, 0, 17, 5, 0, 24, 9, 185, 0, 17, 5, 0]
abbrev dktX23_sum_2 : List UInt8 := dkwX23_sum_2 ++ dktX23_sum_3
def dkwX23_sum_1 : List UInt8 := [45, 43, 21, 8, 182, 0, 7, 24, 6, 185, 0, 17, 5, 0, 57, 9, 42, 43, 24, 4, 24, 9, 44]
abbrev dktX23_sum_1 : List UInt8 := dkwX23_sum_1 ++ dktX23_sum_2
def dkwX23_sum_0 : List UInt8 := [43, 78, 43, 3, 182, 0, 7, 57, 4, 14, 57, 6, 4, 54, 8, 21, 8, 43, 182, 0, 13, 162, 0, 61]
abbrev dktX23_sum_0 : List UInt8 := dkwX23_sum_0 ++ dktX23_sum_1
theorem dksX23_sum_0 : cX23_sum.data.toList.drop 0 = dktX23_sum_0 := by decide +kernel
theorem dksX23_sum_1 : cX23_sum.data.toList.drop 24 = dktX23_sum_1 := dk_seg dksX23_sum_0 24 rfl rfl
theorem dksX23_sum_2 : cX23_sum.data.toList.drop 47 = dktX23_sum_2 := dk_seg dksX23_sum_1 23 rfl rfl
theorem dksX23_sum_3 : cX23_sum.data.toList.drop 70 = dktX23_sum_3 := dk_seg dksX23_sum_2 23 rfl rfl
theorem dX23_sum_0 : decode cX23_sum 0 = .ok (.aload_n 1, 1) := dk_43 (dk_at dksX23_sum_0 0 rfl rfl)
theorem dX23_sum_1 : decode cX23_sum 1 = .ok (.astore_n 3, 1) := dk_78 (dk_at dksX23_sum_0 1 rfl rfl)
theorem dX23_sum_2 : decode cX23_sum 2 = .ok (.aload_n 1, 1) := dk_43 (dk_at dksX23_sum_0 2 rfl rfl)
theorem dX23_sum_3 : decode cX23_sum 3 = .ok (.iconst 0, 1) := dk_3 (dk_at dksX23_sum_0 3 rfl rfl)
theorem dX23_sum_4 : decode cX23_sum 4 = .ok (.invokevirtual 7, 3) := dk_182 0 7 (dk_at dksX23_sum_0 4 rfl rfl)
theorem dX23_sum_7 : decode cX23_sum 7 = .ok (.dstore 4, 2) := dk_57 4 (dk_at dksX23_sum_0 7 rfl rfl)
theorem dX23_sum_9 : decode cX23_sum 9 = .ok (.dconst 0, 1) := dk_14 (dk_at dksX23_sum_0 9 rfl rfl)
theorem dX23_sum_10 : decode cX23_sum 10 = .ok (.dstore 6, 2) := dk_57 6 (dk_at dksX23_sum_0 10 rfl rfl)
theorem dX23_sum_12 : decode cX23_sum 12 = .ok (.iconst 1, 1) := dk_4 (dk_at dksX23_sum_0 12 rfl rfl)
theorem dX23_sum_13 : decode cX23_sum 13 = .ok (.istore 8, 2) := dk_54 8 (dk_at dksX23_sum_0 13 rfl rfl)
theorem dX23_sum_15 : decode cX23_sum 15 = .ok (.iload 8, 2) := dk_21 8 (dk_at dksX23_sum_0 15 rfl rfl)
theorem dX23_sum_17 : decode cX23_sum 17 = .ok (.aload_n 1, 1) := dk_43 (dk_at dksX23_sum_0 17 rfl rfl)
theorem dX23_sum_18 : decode cX23_sum 18 = .ok (.invokevirtual 13, 3) := dk_182 0 13 (dk_at dksX23_sum_0 18 rfl rfl)
theorem dX23_sum_21 : decode cX23_sum 21 = .ok (.if_icmp .ge 61, 3) := dk_162 0 61 (dk_at dksX23_sum_0 21 rfl rfl)
theorem dX23_sum_24 : decode cX23_sum 24 = .ok (.aload_n 3, 1) := dk_45 (dk_at dksX23_sum_1 0 rfl rfl)
theorem dX23_sum_25 : decode cX23_sum 25 = .ok (.aload_n 1, 1) := dk_43 (dk_at dksX23_sum_1 1 rfl rfl)
theorem dX23_sum_26 : decode cX23_sum 26 = .ok (.iload 8, 2) := dk_21 8 (dk_at dksX23_sum_1 2 rfl rfl)
theorem dX23_sum_28 : decode cX23_sum 28 = .ok (.invokevirtual 7, 3) := dk_182 0 7 (dk_at dksX23_sum_1 4 rfl rfl)
theorem dX23_sum_31 : decode cX23_sum 31 = .ok (.dload 6, 2) := dk_24 6 (dk_at dksX23_sum_1 7 rfl rfl)
theorem dX23_sum_33 : decode cX23_sum 33 = .ok (.invokeinterface 17 5, 5) := by decide +kernel
theorem dX23_sum_38 : decode cX23_sum 38 = .ok (.dstore 9, 2) := dk_57 9 (dk_at dksX23_sum_1 14 rfl rfl)
theorem dX23_sum_40 : decode cX23_sum 40 = .ok (.aload_n 0, 1) := dk_42 (dk_at dksX23_sum_1 16 rfl rfl)
theorem dX23_sum_41 : decode cX23_sum 41 = .ok (.aload_n 1, 1) := dk_43 (dk_at dksX23_sum_1 17 rfl rfl)
theorem dX23_sum_42 : decode cX23_sum 42 = .ok (.dload 4, 2) := dk_24 4 (dk_at dksX23_sum_1 18 rfl rfl)
theorem dX23_sum_44 : decode cX23_sum 44 = .ok (.dload 9, 2) := dk_24 9 (dk_at dksX23_sum_1 20 rfl rfl)
theorem dX23_sum_46 : decode cX23_sum 46 = .ok (.aload_n 2, 1) := dk_44 (dk_at dksX23_sum_1 22 rfl rfl)
theorem dX23_sum_47 : decode cX23_sum 47 = .ok (.invokevirtual 23, 3) := dk_182 0 23 (dk_at dksX23_sum_2 0 rfl rfl)
theorem dX23_sum_50 : decode cX23_sum 50 = .ok (.dstore 11, 2) := dk_57 11 (dk_at dksX23_sum_2 3 rfl rfl)
theorem dX23_sum_52 : decode cX23_sum 52 = .ok (.aload_n 3, 1) := dk_45 (dk_at dksX23_sum_2 5 rfl rfl)
theorem dX23_sum_53 : decode cX23_sum 53 = .ok (.aload_n 3, 1) := dk_45 (dk_at dksX23_sum_2 6 rfl rfl)
theorem dX23_sum_54 : decode cX23_sum 54 = .ok (.dload 11, 2) := dk_24 11 (dk_at dksX23_sum_2 7 rfl rfl)
theorem dX23_sum_56 : decode cX23_sum 56 = .ok (.dload 4, 2) := dk_24 4 (dk_at dksX23_sum_2 9 rfl rfl)
theorem dX23_sum_58 : decode cX23_sum 58 = .ok (.invokeinterface 17 5, 5) := by decide +kernel
theorem dX23_sum_63 : decode cX23_sum 63 = .ok (.dload 9, 2) := dk_24 9 (dk_at dksX23_sum_2 16 rfl rfl)
theorem dX23_sum_65 : decode cX23_sum 65 = .ok (.invokeinterface 17 5, 5) := by decide +kernel
theorem dX23_sum_70 : decode cX23_sum 70 = .ok (.dstore 6, 2) := dk_57 6 (dk_at dksX23_sum_3 0 rfl rfl)
theorem dX23_sum_72 : decode cX23_sum 72 = .ok (.dload 11, 2) := dk_24 11 (dk_at dksX23_sum_3 2 rfl rfl)
theorem dX23_sum_74 : decode cX23_sum 74 = .ok (.dstore 4, 2) := dk_57 4 (dk_at dksX23_sum_3 4 rfl rfl)
theorem dX23_sum_76 : decode cX23_sum 76 = .ok (.iinc 8 1, 3) := dk_132 8 1 (dk_at dksX23_sum_3 6 rfl rfl)
theorem dX23_sum_79 : decode cX23_sum 79 = .ok (.goto (-64), 3) := dk_167 255 192 (dk_at dksX23_sum_3 9 rfl rfl)
theorem dX23_sum_82 : decode cX23_sum 82 = .ok (.dload 4, 2) := dk_24 4 (dk_at dksX23_sum_3 12 rfl rfl)
theorem dX23_sum_84 : decode cX23_sum 84 = .ok (.dreturn, 1) := dk_175 (dk_at dksX23_sum_3 14 rfl rfl)
theorem q104 : (Jvm.Cond.initialized "RoundingAuditor$Carried") ∈ lw_all := lw_g (lw_at lw_m1 40 rfl) rfl
theorem q1097 : (Jvm.Cond.instantiable "RoundingAuditor$Carried" (0 : Nat)) ∈ lw_all := lw_g (lw_at lw_m5 73 rfl) rfl
theorem q1099 : (Jvm.Cond.instanceMethod ({ cls := "RoundingAuditor$Carried", name := "<init>", desc := "()V" } : Jvm.MethodName)) ∈ lw_all := lw_g (lw_at lw_m5 75 rfl) rfl
theorem q1100 : (Jvm.Cond.code ({ cls := "RoundingAuditor$Carried", name := "<init>", desc := "()V" } : Jvm.MethodName) prog_6_method_1_code (1 : Nat) (Option.none : Option Jvm.ClassFile.FieldType)) ∈ lw_all := lw_g (lw_at lw_m5 76 rfl) rfl
theorem q1101 : (Jvm.Cond.methodLinkNest "RoundingAuditor$Carried" (1 : Nat) ({ cls := "RoundingAuditor$Way", name := "<init>", desc := "()V" } : Jvm.MethodName) "RoundingAuditor") ∈ lw_tbl := lw_at lw_m5 77 rfl
theorem q1102 : (Jvm.Cond.superclass "RoundingAuditor$Carried" "RoundingAuditor$Way") ∈ lw_all := lw_g (lw_at lw_m5 78 rfl) rfl
theorem q1116 : (Jvm.Cond.selects "RoundingAuditor$Carried" ({ cls := "RoundingAuditor$Way", name := "total", desc := "(LRoundingAuditor$Ledger;LRoundingAuditor$Tape;)D" } : Jvm.MethodName) ({ cls := "RoundingAuditor$Way", name := "total", desc := "(LRoundingAuditor$Ledger;LRoundingAuditor$Tape;)D" } : Jvm.MethodName)) ∈ lw_all := lw_g (lw_at lw_m5 92 rfl) rfl
theorem q1224 : (Jvm.Cond.selects "RoundingAuditor$Carried" ({ cls := "RoundingAuditor$Way", name := "sum", desc := "(LRoundingAuditor$Ledger;LRoundingAuditor$Tape;)D" } : Jvm.MethodName) ({ cls := "RoundingAuditor$Carried", name := "sum", desc := "(LRoundingAuditor$Ledger;LRoundingAuditor$Tape;)D" } : Jvm.MethodName)) ∈ lw_all := lw_g (lw_at lw_m5 200 rfl) rfl
theorem q1225 : (Jvm.Cond.instanceMethod ({ cls := "RoundingAuditor$Carried", name := "sum", desc := "(LRoundingAuditor$Ledger;LRoundingAuditor$Tape;)D" } : Jvm.MethodName)) ∈ lw_all := lw_g (lw_at lw_m5 201 rfl) rfl
theorem q1226 : (Jvm.Cond.code ({ cls := "RoundingAuditor$Carried", name := "sum", desc := "(LRoundingAuditor$Ledger;LRoundingAuditor$Tape;)D" } : Jvm.MethodName) prog_6_method_2_code (13 : Nat) (Option.some Jvm.ClassFile.FieldType.double)) ∈ lw_all := lw_g (lw_at lw_m5 202 rfl) rfl
theorem q1227 : (Jvm.Cond.methodLink "RoundingAuditor$Carried" (7 : Nat) ({ cls := "RoundingAuditor$Ledger", name := "at", desc := "(I)D" } : Jvm.MethodName)) ∈ lw_all := lw_g (lw_at lw_m5 203 rfl) rfl
theorem q1228 : (Jvm.Cond.methodLink "RoundingAuditor$Carried" (13 : Nat) ({ cls := "RoundingAuditor$Ledger", name := "length", desc := "()I" } : Jvm.MethodName)) ∈ lw_all := lw_g (lw_at lw_m5 204 rfl) rfl
theorem q1229 : (Jvm.Cond.interfaceEntry "RoundingAuditor$Carried" (17 : Nat)) ∈ lw_tbl := lw_at lw_m5 205 rfl
theorem q1230 : (Jvm.Cond.methodLink "RoundingAuditor$Carried" (17 : Nat) ({ cls := "RoundingAuditor$Adder", name := "less", desc := "(DD)D" } : Jvm.MethodName)) ∈ lw_all := lw_g (lw_at lw_m5 206 rfl) rfl
theorem q1247 : (Jvm.Cond.methodLink "RoundingAuditor$Carried" (23 : Nat) ({ cls := "RoundingAuditor$Carried", name := "add", desc := "(LRoundingAuditor$Ledger;DDLRoundingAuditor$Tape;)D" } : Jvm.MethodName)) ∈ lw_all := lw_g (lw_at lw_m5 223 rfl) rfl
theorem q1248 : (Jvm.Cond.sameMethod "RoundingAuditor$Carried" "RoundingAuditor$Way" "add" "(LRoundingAuditor$Ledger;DDLRoundingAuditor$Tape;)D") ∈ lw_all := lw_g (lw_at lw_m5 224 rfl) rfl
theorem q1249 : (Jvm.Cond.selects "RoundingAuditor$Carried" ({ cls := "RoundingAuditor$Carried", name := "add", desc := "(LRoundingAuditor$Ledger;DDLRoundingAuditor$Tape;)D" } : Jvm.MethodName) ({ cls := "RoundingAuditor$Way", name := "add", desc := "(LRoundingAuditor$Ledger;DDLRoundingAuditor$Tape;)D" } : Jvm.MethodName)) ∈ lw_all := lw_g (lw_at lw_m5 225 rfl) rfl
theorem q1333 : (Jvm.Cond.selects "RoundingAuditor$Carried" ({ cls := "java/lang/Object", name := "getClass", desc := "()Ljava/lang/Class;" } : Jvm.MethodName) ({ cls := "java/lang/Object", name := "getClass", desc := "()Ljava/lang/Class;" } : Jvm.MethodName)) ∈ lw_all := lw_g (lw_at lw_m6 69 rfl) rfl
theorem q2078 : (Jvm.Cond.castable "RoundingAuditor$Carried" "java/lang/Object") ∈ lw_tbl := lw_at lw_m9 94 rfl

/-! RoundingAuditor$CarriedApart -/
set_option maxRecDepth 100000
def RX24 : String := "RoundingAuditor$CarriedApart"
abbrev cX24_init : ByteArray := prog_7_method_1_code
def yX24_init : MethodName := ⟨RX24, "<init>", "()V"⟩
theorem dX24_init_0 : decode cX24_init 0 = .ok (.aload_n 0, 1) := by decide +kernel
theorem dX24_init_1 : decode cX24_init 1 = .ok (.invokespecial 1, 3) := by decide +kernel
theorem dX24_init_4 : decode cX24_init 4 = .ok (.return_, 1) := by decide +kernel
abbrev cX24_sum : ByteArray := prog_7_method_2_code
def yX24_sum : MethodName := ⟨RX24, "sum", "(LRoundingAuditor$Ledger;LRoundingAuditor$Tape;)D"⟩
def dkwX24_sum_5 : List UInt8 := [57, 6, 24, 11, 57, 4, 132, 8, 1, 167, 255, 145, 45, 24, 4, 24, 6, 185, 0, 35, 5, 0, 175]
abbrev dktX24_sum_5 : List UInt8 := dkwX24_sum_5 ++ []
def dkwX24_sum_4 : List UInt8 := [45, 45, 24, 9, 24, 11, 185, 0, 29, 5, 0, 24, 4, 185, 0, 35, 5, 0, 185, 0, 35, 5, 0]
abbrev dktX24_sum_4 : List UInt8 := dkwX24_sum_4 ++ dktX24_sum_5
def dkwX24_sum_3 : List UInt8 := [153, 0, 24, 45, 45, 24, 4, 24, 11, 185, 0, 29, 5, 0, 24, 9, 185, 0, 35, 5, 0, 167, 0, 21]
abbrev dktX24_sum_3 : List UInt8 := dkwX24_sum_3 ++ dktX24_sum_4
def dkwX24_sum_2 : List UInt8 := [184, 0, 23, 24, 9, 184, 0, 23, 151, 155, 0, 7, 4, 167, 0, 4, 3, 54, 13, 45, 24, 6, 21, 13]
abbrev dktX24_sum_2 : List UInt8 := dkwX24_sum_2 ++ dktX24_sum_3
def dkwX24_sum_1 : List UInt8 := [43, 21, 8, 182, 0, 7, 57, 9, 42, 43, 24, 4, 24, 9, 44, 182, 0, 17, 57, 11, 24, 4]
abbrev dktX24_sum_1 : List UInt8 := dkwX24_sum_1 ++ dktX24_sum_2
def dkwX24_sum_0 : List UInt8 := [43, 78, 43, 3, 182, 0, 7, 57, 4, 14, 57, 6, 4, 54, 8, 21, 8, 43, 182, 0, 13, 162, 0, 108]
abbrev dktX24_sum_0 : List UInt8 := dkwX24_sum_0 ++ dktX24_sum_1
theorem dksX24_sum_0 : cX24_sum.data.toList.drop 0 = dktX24_sum_0 := by decide +kernel
theorem dksX24_sum_1 : cX24_sum.data.toList.drop 24 = dktX24_sum_1 := dk_seg dksX24_sum_0 24 rfl rfl
theorem dksX24_sum_2 : cX24_sum.data.toList.drop 46 = dktX24_sum_2 := dk_seg dksX24_sum_1 22 rfl rfl
theorem dksX24_sum_3 : cX24_sum.data.toList.drop 70 = dktX24_sum_3 := dk_seg dksX24_sum_2 24 rfl rfl
theorem dksX24_sum_4 : cX24_sum.data.toList.drop 94 = dktX24_sum_4 := dk_seg dksX24_sum_3 24 rfl rfl
theorem dksX24_sum_5 : cX24_sum.data.toList.drop 117 = dktX24_sum_5 := dk_seg dksX24_sum_4 23 rfl rfl
theorem dX24_sum_0 : decode cX24_sum 0 = .ok (.aload_n 1, 1) := dk_43 (dk_at dksX24_sum_0 0 rfl rfl)
theorem dX24_sum_1 : decode cX24_sum 1 = .ok (.astore_n 3, 1) := dk_78 (dk_at dksX24_sum_0 1 rfl rfl)
theorem dX24_sum_2 : decode cX24_sum 2 = .ok (.aload_n 1, 1) := dk_43 (dk_at dksX24_sum_0 2 rfl rfl)
theorem dX24_sum_3 : decode cX24_sum 3 = .ok (.iconst 0, 1) := dk_3 (dk_at dksX24_sum_0 3 rfl rfl)
theorem dX24_sum_4 : decode cX24_sum 4 = .ok (.invokevirtual 7, 3) := dk_182 0 7 (dk_at dksX24_sum_0 4 rfl rfl)
theorem dX24_sum_7 : decode cX24_sum 7 = .ok (.dstore 4, 2) := dk_57 4 (dk_at dksX24_sum_0 7 rfl rfl)
theorem dX24_sum_9 : decode cX24_sum 9 = .ok (.dconst 0, 1) := dk_14 (dk_at dksX24_sum_0 9 rfl rfl)
theorem dX24_sum_10 : decode cX24_sum 10 = .ok (.dstore 6, 2) := dk_57 6 (dk_at dksX24_sum_0 10 rfl rfl)
theorem dX24_sum_12 : decode cX24_sum 12 = .ok (.iconst 1, 1) := dk_4 (dk_at dksX24_sum_0 12 rfl rfl)
theorem dX24_sum_13 : decode cX24_sum 13 = .ok (.istore 8, 2) := dk_54 8 (dk_at dksX24_sum_0 13 rfl rfl)
theorem dX24_sum_15 : decode cX24_sum 15 = .ok (.iload 8, 2) := dk_21 8 (dk_at dksX24_sum_0 15 rfl rfl)
theorem dX24_sum_17 : decode cX24_sum 17 = .ok (.aload_n 1, 1) := dk_43 (dk_at dksX24_sum_0 17 rfl rfl)
theorem dX24_sum_18 : decode cX24_sum 18 = .ok (.invokevirtual 13, 3) := dk_182 0 13 (dk_at dksX24_sum_0 18 rfl rfl)
theorem dX24_sum_21 : decode cX24_sum 21 = .ok (.if_icmp .ge 108, 3) := dk_162 0 108 (dk_at dksX24_sum_0 21 rfl rfl)
theorem dX24_sum_24 : decode cX24_sum 24 = .ok (.aload_n 1, 1) := dk_43 (dk_at dksX24_sum_1 0 rfl rfl)
theorem dX24_sum_25 : decode cX24_sum 25 = .ok (.iload 8, 2) := dk_21 8 (dk_at dksX24_sum_1 1 rfl rfl)
theorem dX24_sum_27 : decode cX24_sum 27 = .ok (.invokevirtual 7, 3) := dk_182 0 7 (dk_at dksX24_sum_1 3 rfl rfl)
theorem dX24_sum_30 : decode cX24_sum 30 = .ok (.dstore 9, 2) := dk_57 9 (dk_at dksX24_sum_1 6 rfl rfl)
theorem dX24_sum_32 : decode cX24_sum 32 = .ok (.aload_n 0, 1) := dk_42 (dk_at dksX24_sum_1 8 rfl rfl)
theorem dX24_sum_33 : decode cX24_sum 33 = .ok (.aload_n 1, 1) := dk_43 (dk_at dksX24_sum_1 9 rfl rfl)
theorem dX24_sum_34 : decode cX24_sum 34 = .ok (.dload 4, 2) := dk_24 4 (dk_at dksX24_sum_1 10 rfl rfl)
theorem dX24_sum_36 : decode cX24_sum 36 = .ok (.dload 9, 2) := dk_24 9 (dk_at dksX24_sum_1 12 rfl rfl)
theorem dX24_sum_38 : decode cX24_sum 38 = .ok (.aload_n 2, 1) := dk_44 (dk_at dksX24_sum_1 14 rfl rfl)
theorem dX24_sum_39 : decode cX24_sum 39 = .ok (.invokevirtual 17, 3) := dk_182 0 17 (dk_at dksX24_sum_1 15 rfl rfl)
theorem dX24_sum_42 : decode cX24_sum 42 = .ok (.dstore 11, 2) := dk_57 11 (dk_at dksX24_sum_1 18 rfl rfl)
theorem dX24_sum_44 : decode cX24_sum 44 = .ok (.dload 4, 2) := dk_24 4 (dk_at dksX24_sum_1 20 rfl rfl)
theorem dX24_sum_46 : decode cX24_sum 46 = .ok (.invokestatic 23, 3) := dk_184 0 23 (dk_at dksX24_sum_2 0 rfl rfl)
theorem dX24_sum_49 : decode cX24_sum 49 = .ok (.dload 9, 2) := dk_24 9 (dk_at dksX24_sum_2 3 rfl rfl)
theorem dX24_sum_51 : decode cX24_sum 51 = .ok (.invokestatic 23, 3) := dk_184 0 23 (dk_at dksX24_sum_2 5 rfl rfl)
theorem dX24_sum_54 : decode cX24_sum 54 = .ok (.dcmp .l, 1) := dk_151 (dk_at dksX24_sum_2 8 rfl rfl)
theorem dX24_sum_55 : decode cX24_sum 55 = .ok (.ifCond .lt 7, 3) := dk_155 0 7 (dk_at dksX24_sum_2 9 rfl rfl)
theorem dX24_sum_58 : decode cX24_sum 58 = .ok (.iconst 1, 1) := dk_4 (dk_at dksX24_sum_2 12 rfl rfl)
theorem dX24_sum_59 : decode cX24_sum 59 = .ok (.goto 4, 3) := dk_167 0 4 (dk_at dksX24_sum_2 13 rfl rfl)
theorem dX24_sum_62 : decode cX24_sum 62 = .ok (.iconst 0, 1) := dk_3 (dk_at dksX24_sum_2 16 rfl rfl)
theorem dX24_sum_63 : decode cX24_sum 63 = .ok (.istore 13, 2) := dk_54 13 (dk_at dksX24_sum_2 17 rfl rfl)
theorem dX24_sum_65 : decode cX24_sum 65 = .ok (.aload_n 3, 1) := dk_45 (dk_at dksX24_sum_2 19 rfl rfl)
theorem dX24_sum_66 : decode cX24_sum 66 = .ok (.dload 6, 2) := dk_24 6 (dk_at dksX24_sum_2 20 rfl rfl)
theorem dX24_sum_68 : decode cX24_sum 68 = .ok (.iload 13, 2) := dk_21 13 (dk_at dksX24_sum_2 22 rfl rfl)
theorem dX24_sum_70 : decode cX24_sum 70 = .ok (.ifCond .eq 24, 3) := dk_153 0 24 (dk_at dksX24_sum_3 0 rfl rfl)
theorem dX24_sum_73 : decode cX24_sum 73 = .ok (.aload_n 3, 1) := dk_45 (dk_at dksX24_sum_3 3 rfl rfl)
theorem dX24_sum_74 : decode cX24_sum 74 = .ok (.aload_n 3, 1) := dk_45 (dk_at dksX24_sum_3 4 rfl rfl)
theorem dX24_sum_75 : decode cX24_sum 75 = .ok (.dload 4, 2) := dk_24 4 (dk_at dksX24_sum_3 5 rfl rfl)
theorem dX24_sum_77 : decode cX24_sum 77 = .ok (.dload 11, 2) := dk_24 11 (dk_at dksX24_sum_3 7 rfl rfl)
theorem dX24_sum_79 : decode cX24_sum 79 = .ok (.invokeinterface 29 5, 5) := by decide +kernel
theorem dX24_sum_84 : decode cX24_sum 84 = .ok (.dload 9, 2) := dk_24 9 (dk_at dksX24_sum_3 14 rfl rfl)
theorem dX24_sum_86 : decode cX24_sum 86 = .ok (.invokeinterface 35 5, 5) := by decide +kernel
theorem dX24_sum_91 : decode cX24_sum 91 = .ok (.goto 21, 3) := dk_167 0 21 (dk_at dksX24_sum_3 21 rfl rfl)
theorem dX24_sum_94 : decode cX24_sum 94 = .ok (.aload_n 3, 1) := dk_45 (dk_at dksX24_sum_4 0 rfl rfl)
theorem dX24_sum_95 : decode cX24_sum 95 = .ok (.aload_n 3, 1) := dk_45 (dk_at dksX24_sum_4 1 rfl rfl)
theorem dX24_sum_96 : decode cX24_sum 96 = .ok (.dload 9, 2) := dk_24 9 (dk_at dksX24_sum_4 2 rfl rfl)
theorem dX24_sum_98 : decode cX24_sum 98 = .ok (.dload 11, 2) := dk_24 11 (dk_at dksX24_sum_4 4 rfl rfl)
theorem dX24_sum_100 : decode cX24_sum 100 = .ok (.invokeinterface 29 5, 5) := by decide +kernel
theorem dX24_sum_105 : decode cX24_sum 105 = .ok (.dload 4, 2) := dk_24 4 (dk_at dksX24_sum_4 11 rfl rfl)
theorem dX24_sum_107 : decode cX24_sum 107 = .ok (.invokeinterface 35 5, 5) := by decide +kernel
theorem dX24_sum_112 : decode cX24_sum 112 = .ok (.invokeinterface 35 5, 5) := by decide +kernel
theorem dX24_sum_117 : decode cX24_sum 117 = .ok (.dstore 6, 2) := dk_57 6 (dk_at dksX24_sum_5 0 rfl rfl)
theorem dX24_sum_119 : decode cX24_sum 119 = .ok (.dload 11, 2) := dk_24 11 (dk_at dksX24_sum_5 2 rfl rfl)
theorem dX24_sum_121 : decode cX24_sum 121 = .ok (.dstore 4, 2) := dk_57 4 (dk_at dksX24_sum_5 4 rfl rfl)
theorem dX24_sum_123 : decode cX24_sum 123 = .ok (.iinc 8 1, 3) := dk_132 8 1 (dk_at dksX24_sum_5 6 rfl rfl)
theorem dX24_sum_126 : decode cX24_sum 126 = .ok (.goto (-111), 3) := dk_167 255 145 (dk_at dksX24_sum_5 9 rfl rfl)
theorem dX24_sum_129 : decode cX24_sum 129 = .ok (.aload_n 3, 1) := dk_45 (dk_at dksX24_sum_5 12 rfl rfl)
theorem dX24_sum_130 : decode cX24_sum 130 = .ok (.dload 4, 2) := dk_24 4 (dk_at dksX24_sum_5 13 rfl rfl)
theorem dX24_sum_132 : decode cX24_sum 132 = .ok (.dload 6, 2) := dk_24 6 (dk_at dksX24_sum_5 15 rfl rfl)
theorem dX24_sum_134 : decode cX24_sum 134 = .ok (.invokeinterface 35 5, 5) := by decide +kernel
theorem dX24_sum_139 : decode cX24_sum 139 = .ok (.dreturn, 1) := dk_175 (dk_at dksX24_sum_5 22 rfl rfl)
theorem q105 : (Jvm.Cond.initialized "RoundingAuditor$CarriedApart") ∈ lw_all := lw_g (lw_at lw_m1 41 rfl) rfl
theorem q1104 : (Jvm.Cond.instantiable "RoundingAuditor$CarriedApart" (0 : Nat)) ∈ lw_all := lw_g (lw_at lw_m5 80 rfl) rfl
theorem q1106 : (Jvm.Cond.instanceMethod ({ cls := "RoundingAuditor$CarriedApart", name := "<init>", desc := "()V" } : Jvm.MethodName)) ∈ lw_all := lw_g (lw_at lw_m5 82 rfl) rfl
theorem q1107 : (Jvm.Cond.code ({ cls := "RoundingAuditor$CarriedApart", name := "<init>", desc := "()V" } : Jvm.MethodName) prog_7_method_1_code (1 : Nat) (Option.none : Option Jvm.ClassFile.FieldType)) ∈ lw_all := lw_g (lw_at lw_m5 83 rfl) rfl
theorem q1108 : (Jvm.Cond.methodLinkNest "RoundingAuditor$CarriedApart" (1 : Nat) ({ cls := "RoundingAuditor$Way", name := "<init>", desc := "()V" } : Jvm.MethodName) "RoundingAuditor") ∈ lw_tbl := lw_at lw_m5 84 rfl
theorem q1109 : (Jvm.Cond.superclass "RoundingAuditor$CarriedApart" "RoundingAuditor$Way") ∈ lw_all := lw_g (lw_at lw_m5 85 rfl) rfl
theorem q1117 : (Jvm.Cond.selects "RoundingAuditor$CarriedApart" ({ cls := "RoundingAuditor$Way", name := "total", desc := "(LRoundingAuditor$Ledger;LRoundingAuditor$Tape;)D" } : Jvm.MethodName) ({ cls := "RoundingAuditor$Way", name := "total", desc := "(LRoundingAuditor$Ledger;LRoundingAuditor$Tape;)D" } : Jvm.MethodName)) ∈ lw_all := lw_g (lw_at lw_m5 93 rfl) rfl
theorem q1250 : (Jvm.Cond.selects "RoundingAuditor$CarriedApart" ({ cls := "RoundingAuditor$Way", name := "sum", desc := "(LRoundingAuditor$Ledger;LRoundingAuditor$Tape;)D" } : Jvm.MethodName) ({ cls := "RoundingAuditor$CarriedApart", name := "sum", desc := "(LRoundingAuditor$Ledger;LRoundingAuditor$Tape;)D" } : Jvm.MethodName)) ∈ lw_all := lw_g (lw_at lw_m5 226 rfl) rfl
theorem q1251 : (Jvm.Cond.instanceMethod ({ cls := "RoundingAuditor$CarriedApart", name := "sum", desc := "(LRoundingAuditor$Ledger;LRoundingAuditor$Tape;)D" } : Jvm.MethodName)) ∈ lw_all := lw_g (lw_at lw_m5 227 rfl) rfl
theorem q1252 : (Jvm.Cond.code ({ cls := "RoundingAuditor$CarriedApart", name := "sum", desc := "(LRoundingAuditor$Ledger;LRoundingAuditor$Tape;)D" } : Jvm.MethodName) prog_7_method_2_code (14 : Nat) (Option.some Jvm.ClassFile.FieldType.double)) ∈ lw_all := lw_g (lw_at lw_m5 228 rfl) rfl
theorem q1253 : (Jvm.Cond.methodLink "RoundingAuditor$CarriedApart" (7 : Nat) ({ cls := "RoundingAuditor$Ledger", name := "at", desc := "(I)D" } : Jvm.MethodName)) ∈ lw_all := lw_g (lw_at lw_m5 229 rfl) rfl
theorem q1254 : (Jvm.Cond.methodLink "RoundingAuditor$CarriedApart" (13 : Nat) ({ cls := "RoundingAuditor$Ledger", name := "length", desc := "()I" } : Jvm.MethodName)) ∈ lw_all := lw_g (lw_at lw_m5 230 rfl) rfl
theorem q1255 : (Jvm.Cond.methodLink "RoundingAuditor$CarriedApart" (17 : Nat) ({ cls := "RoundingAuditor$CarriedApart", name := "add", desc := "(LRoundingAuditor$Ledger;DDLRoundingAuditor$Tape;)D" } : Jvm.MethodName)) ∈ lw_all := lw_g (lw_at lw_m5 231 rfl) rfl
theorem q1256 : (Jvm.Cond.sameMethod "RoundingAuditor$CarriedApart" "RoundingAuditor$Way" "add" "(LRoundingAuditor$Ledger;DDLRoundingAuditor$Tape;)D") ∈ lw_all := lw_g (lw_at lw_m5 232 rfl) rfl
theorem q1257 : (Jvm.Cond.selects "RoundingAuditor$CarriedApart" ({ cls := "RoundingAuditor$CarriedApart", name := "add", desc := "(LRoundingAuditor$Ledger;DDLRoundingAuditor$Tape;)D" } : Jvm.MethodName) ({ cls := "RoundingAuditor$Way", name := "add", desc := "(LRoundingAuditor$Ledger;DDLRoundingAuditor$Tape;)D" } : Jvm.MethodName)) ∈ lw_all := lw_g (lw_at lw_m5 233 rfl) rfl
theorem q1258 : (Jvm.Cond.methodLink "RoundingAuditor$CarriedApart" (23 : Nat) ({ cls := "java/lang/Math", name := "abs", desc := "(D)D" } : Jvm.MethodName)) ∈ lw_all := lw_g (lw_at lw_m5 234 rfl) rfl
theorem q1259 : (Jvm.Cond.interfaceEntry "RoundingAuditor$CarriedApart" (29 : Nat)) ∈ lw_tbl := lw_at lw_m5 235 rfl
theorem q1260 : (Jvm.Cond.methodLink "RoundingAuditor$CarriedApart" (29 : Nat) ({ cls := "RoundingAuditor$Adder", name := "less", desc := "(DD)D" } : Jvm.MethodName)) ∈ lw_all := lw_g (lw_at lw_m5 236 rfl) rfl
theorem q1261 : (Jvm.Cond.interfaceEntry "RoundingAuditor$CarriedApart" (35 : Nat)) ∈ lw_tbl := lw_at lw_m5 237 rfl
theorem q1262 : (Jvm.Cond.methodLink "RoundingAuditor$CarriedApart" (35 : Nat) ({ cls := "RoundingAuditor$Adder", name := "add", desc := "(DD)D" } : Jvm.MethodName)) ∈ lw_all := lw_g (lw_at lw_m5 238 rfl) rfl
theorem q1334 : (Jvm.Cond.selects "RoundingAuditor$CarriedApart" ({ cls := "java/lang/Object", name := "getClass", desc := "()Ljava/lang/Class;" } : Jvm.MethodName) ({ cls := "java/lang/Object", name := "getClass", desc := "()Ljava/lang/Class;" } : Jvm.MethodName)) ∈ lw_all := lw_g (lw_at lw_m6 70 rfl) rfl
theorem q2079 : (Jvm.Cond.castable "RoundingAuditor$CarriedApart" "java/lang/Object") ∈ lw_tbl := lw_at lw_m9 95 rfl

/-! jdk/internal/util/ArraysSupport -/
set_option maxRecDepth 100000
def RJ16 : String := "jdk/internal/util/ArraysSupport"
abbrev cJ16_newLength : ByteArray := prog_58_method_27_code
def yJ16_newLength : MethodName := ⟨RJ16, "newLength", "(III)I"⟩
def dkwJ16_newLength_1 : List UInt8 := [184, 0, 201, 172]
abbrev dktJ16_newLength_1 : List UInt8 := dkwJ16_newLength_1 ++ []
def dkwJ16_newLength_0 : List UInt8 := [26, 27, 28, 184, 0, 194, 96, 62, 3, 29, 162, 0, 11, 29, 18, 200, 163, 0, 5, 29, 172, 26, 27]
abbrev dktJ16_newLength_0 : List UInt8 := dkwJ16_newLength_0 ++ dktJ16_newLength_1
theorem dksJ16_newLength_0 : cJ16_newLength.data.toList.drop 0 = dktJ16_newLength_0 := by decide +kernel
theorem dksJ16_newLength_1 : cJ16_newLength.data.toList.drop 23 = dktJ16_newLength_1 := dk_seg dksJ16_newLength_0 23 rfl rfl
theorem dJ16_newLength_0 : decode cJ16_newLength 0 = .ok (.iload_n 0, 1) := dk_26 (dk_at dksJ16_newLength_0 0 rfl rfl)
theorem dJ16_newLength_1 : decode cJ16_newLength 1 = .ok (.iload_n 1, 1) := dk_27 (dk_at dksJ16_newLength_0 1 rfl rfl)
theorem dJ16_newLength_2 : decode cJ16_newLength 2 = .ok (.iload_n 2, 1) := dk_28 (dk_at dksJ16_newLength_0 2 rfl rfl)
theorem dJ16_newLength_3 : decode cJ16_newLength 3 = .ok (.invokestatic 194, 3) := dk_184 0 194 (dk_at dksJ16_newLength_0 3 rfl rfl)
theorem dJ16_newLength_6 : decode cJ16_newLength 6 = .ok (.iadd, 1) := dk_96 (dk_at dksJ16_newLength_0 6 rfl rfl)
theorem dJ16_newLength_7 : decode cJ16_newLength 7 = .ok (.istore_n 3, 1) := dk_62 (dk_at dksJ16_newLength_0 7 rfl rfl)
theorem dJ16_newLength_8 : decode cJ16_newLength 8 = .ok (.iconst 0, 1) := dk_3 (dk_at dksJ16_newLength_0 8 rfl rfl)
theorem dJ16_newLength_9 : decode cJ16_newLength 9 = .ok (.iload_n 3, 1) := dk_29 (dk_at dksJ16_newLength_0 9 rfl rfl)
theorem dJ16_newLength_10 : decode cJ16_newLength 10 = .ok (.if_icmp .ge 11, 3) := dk_162 0 11 (dk_at dksJ16_newLength_0 10 rfl rfl)
theorem dJ16_newLength_13 : decode cJ16_newLength 13 = .ok (.iload_n 3, 1) := dk_29 (dk_at dksJ16_newLength_0 13 rfl rfl)
theorem dJ16_newLength_14 : decode cJ16_newLength 14 = .ok (.ldc 200, 2) := dk_18 200 (dk_at dksJ16_newLength_0 14 rfl rfl)
theorem dJ16_newLength_16 : decode cJ16_newLength 16 = .ok (.if_icmp .gt 5, 3) := dk_163 0 5 (dk_at dksJ16_newLength_0 16 rfl rfl)
theorem dJ16_newLength_19 : decode cJ16_newLength 19 = .ok (.iload_n 3, 1) := dk_29 (dk_at dksJ16_newLength_0 19 rfl rfl)
theorem dJ16_newLength_20 : decode cJ16_newLength 20 = .ok (.ireturn, 1) := dk_172 (dk_at dksJ16_newLength_0 20 rfl rfl)
theorem dJ16_newLength_21 : decode cJ16_newLength 21 = .ok (.iload_n 0, 1) := dk_26 (dk_at dksJ16_newLength_0 21 rfl rfl)
theorem dJ16_newLength_22 : decode cJ16_newLength 22 = .ok (.iload_n 1, 1) := dk_27 (dk_at dksJ16_newLength_0 22 rfl rfl)
theorem dJ16_newLength_23 : decode cJ16_newLength 23 = .ok (.invokestatic 201, 3) := dk_184 0 201 (dk_at dksJ16_newLength_1 0 rfl rfl)
theorem dJ16_newLength_26 : decode cJ16_newLength 26 = .ok (.ireturn, 1) := dk_172 (dk_at dksJ16_newLength_1 3 rfl rfl)
abbrev cJ16_hugeLength : ByteArray := prog_58_method_28_code
def yJ16_hugeLength : MethodName := ⟨RJ16, "hugeLength", "(II)I"⟩
def dkwJ16_hugeLength_2 : List UInt8 := [191, 28, 18, 200, 163, 0, 6, 18, 200, 172, 28, 172]
abbrev dktJ16_hugeLength_2 : List UInt8 := dkwJ16_hugeLength_2 ++ []
def dkwJ16_hugeLength_1 : List UInt8 := [26, 182, 0, 98, 18, 208, 182, 0, 94, 27, 182, 0, 98, 18, 210, 182, 0, 94, 182, 0, 101, 183, 0, 212]
abbrev dktJ16_hugeLength_1 : List UInt8 := dkwJ16_hugeLength_1 ++ dktJ16_hugeLength_2
def dkwJ16_hugeLength_0 : List UInt8 := [26, 27, 96, 61, 28, 156, 0, 44, 187, 0, 204, 89, 187, 0, 89, 89, 183, 0, 91, 18, 206, 182, 0, 94]
abbrev dktJ16_hugeLength_0 : List UInt8 := dkwJ16_hugeLength_0 ++ dktJ16_hugeLength_1
theorem dksJ16_hugeLength_0 : cJ16_hugeLength.data.toList.drop 0 = dktJ16_hugeLength_0 := by decide +kernel
theorem dksJ16_hugeLength_1 : cJ16_hugeLength.data.toList.drop 24 = dktJ16_hugeLength_1 := dk_seg dksJ16_hugeLength_0 24 rfl rfl
theorem dksJ16_hugeLength_2 : cJ16_hugeLength.data.toList.drop 48 = dktJ16_hugeLength_2 := dk_seg dksJ16_hugeLength_1 24 rfl rfl
theorem dJ16_hugeLength_0 : decode cJ16_hugeLength 0 = .ok (.iload_n 0, 1) := dk_26 (dk_at dksJ16_hugeLength_0 0 rfl rfl)
theorem dJ16_hugeLength_1 : decode cJ16_hugeLength 1 = .ok (.iload_n 1, 1) := dk_27 (dk_at dksJ16_hugeLength_0 1 rfl rfl)
theorem dJ16_hugeLength_2 : decode cJ16_hugeLength 2 = .ok (.iadd, 1) := dk_96 (dk_at dksJ16_hugeLength_0 2 rfl rfl)
theorem dJ16_hugeLength_3 : decode cJ16_hugeLength 3 = .ok (.istore_n 2, 1) := dk_61 (dk_at dksJ16_hugeLength_0 3 rfl rfl)
theorem dJ16_hugeLength_4 : decode cJ16_hugeLength 4 = .ok (.iload_n 2, 1) := dk_28 (dk_at dksJ16_hugeLength_0 4 rfl rfl)
theorem dJ16_hugeLength_5 : decode cJ16_hugeLength 5 = .ok (.ifCond .ge 44, 3) := dk_156 0 44 (dk_at dksJ16_hugeLength_0 5 rfl rfl)
theorem dJ16_hugeLength_8 : decode cJ16_hugeLength 8 = .ok (.new 204, 3) := dk_187 0 204 (dk_at dksJ16_hugeLength_0 8 rfl rfl)
theorem dJ16_hugeLength_11 : decode cJ16_hugeLength 11 = .ok (.dup, 1) := dk_89 (dk_at dksJ16_hugeLength_0 11 rfl rfl)
theorem dJ16_hugeLength_12 : decode cJ16_hugeLength 12 = .ok (.new 89, 3) := dk_187 0 89 (dk_at dksJ16_hugeLength_0 12 rfl rfl)
theorem dJ16_hugeLength_15 : decode cJ16_hugeLength 15 = .ok (.dup, 1) := dk_89 (dk_at dksJ16_hugeLength_0 15 rfl rfl)
theorem dJ16_hugeLength_16 : decode cJ16_hugeLength 16 = .ok (.invokespecial 91, 3) := dk_183 0 91 (dk_at dksJ16_hugeLength_0 16 rfl rfl)
theorem dJ16_hugeLength_19 : decode cJ16_hugeLength 19 = .ok (.ldc 206, 2) := dk_18 206 (dk_at dksJ16_hugeLength_0 19 rfl rfl)
theorem dJ16_hugeLength_21 : decode cJ16_hugeLength 21 = .ok (.invokevirtual 94, 3) := dk_182 0 94 (dk_at dksJ16_hugeLength_0 21 rfl rfl)
theorem dJ16_hugeLength_24 : decode cJ16_hugeLength 24 = .ok (.iload_n 0, 1) := dk_26 (dk_at dksJ16_hugeLength_1 0 rfl rfl)
theorem dJ16_hugeLength_25 : decode cJ16_hugeLength 25 = .ok (.invokevirtual 98, 3) := dk_182 0 98 (dk_at dksJ16_hugeLength_1 1 rfl rfl)
theorem dJ16_hugeLength_28 : decode cJ16_hugeLength 28 = .ok (.ldc 208, 2) := dk_18 208 (dk_at dksJ16_hugeLength_1 4 rfl rfl)
theorem dJ16_hugeLength_30 : decode cJ16_hugeLength 30 = .ok (.invokevirtual 94, 3) := dk_182 0 94 (dk_at dksJ16_hugeLength_1 6 rfl rfl)
theorem dJ16_hugeLength_33 : decode cJ16_hugeLength 33 = .ok (.iload_n 1, 1) := dk_27 (dk_at dksJ16_hugeLength_1 9 rfl rfl)
theorem dJ16_hugeLength_34 : decode cJ16_hugeLength 34 = .ok (.invokevirtual 98, 3) := dk_182 0 98 (dk_at dksJ16_hugeLength_1 10 rfl rfl)
theorem dJ16_hugeLength_37 : decode cJ16_hugeLength 37 = .ok (.ldc 210, 2) := dk_18 210 (dk_at dksJ16_hugeLength_1 13 rfl rfl)
theorem dJ16_hugeLength_39 : decode cJ16_hugeLength 39 = .ok (.invokevirtual 94, 3) := dk_182 0 94 (dk_at dksJ16_hugeLength_1 15 rfl rfl)
theorem dJ16_hugeLength_42 : decode cJ16_hugeLength 42 = .ok (.invokevirtual 101, 3) := dk_182 0 101 (dk_at dksJ16_hugeLength_1 18 rfl rfl)
theorem dJ16_hugeLength_45 : decode cJ16_hugeLength 45 = .ok (.invokespecial 212, 3) := dk_183 0 212 (dk_at dksJ16_hugeLength_1 21 rfl rfl)
theorem dJ16_hugeLength_48 : decode cJ16_hugeLength 48 = .ok (.athrow, 1) := dk_191 (dk_at dksJ16_hugeLength_2 0 rfl rfl)
theorem dJ16_hugeLength_49 : decode cJ16_hugeLength 49 = .ok (.iload_n 2, 1) := dk_28 (dk_at dksJ16_hugeLength_2 1 rfl rfl)
theorem dJ16_hugeLength_50 : decode cJ16_hugeLength 50 = .ok (.ldc 200, 2) := dk_18 200 (dk_at dksJ16_hugeLength_2 2 rfl rfl)
theorem dJ16_hugeLength_52 : decode cJ16_hugeLength 52 = .ok (.if_icmp .gt 6, 3) := dk_163 0 6 (dk_at dksJ16_hugeLength_2 4 rfl rfl)
theorem dJ16_hugeLength_55 : decode cJ16_hugeLength 55 = .ok (.ldc 200, 2) := dk_18 200 (dk_at dksJ16_hugeLength_2 7 rfl rfl)
theorem dJ16_hugeLength_57 : decode cJ16_hugeLength 57 = .ok (.ireturn, 1) := dk_172 (dk_at dksJ16_hugeLength_2 9 rfl rfl)
theorem dJ16_hugeLength_58 : decode cJ16_hugeLength 58 = .ok (.iload_n 2, 1) := dk_28 (dk_at dksJ16_hugeLength_2 10 rfl rfl)
theorem dJ16_hugeLength_59 : decode cJ16_hugeLength 59 = .ok (.ireturn, 1) := dk_172 (dk_at dksJ16_hugeLength_2 11 rfl rfl)
theorem q106 : (Jvm.Cond.initialized "jdk/internal/util/ArraysSupport") ∈ lw_all := lw_g (lw_at lw_m1 42 rfl) rfl
theorem q1316 : (Jvm.Cond.static ({ cls := "jdk/internal/util/ArraysSupport", name := "newLength", desc := "(III)I" } : Jvm.MethodName)) ∈ lw_all := lw_g (lw_at lw_m6 52 rfl) rfl
theorem q1317 : (Jvm.Cond.code ({ cls := "jdk/internal/util/ArraysSupport", name := "newLength", desc := "(III)I" } : Jvm.MethodName) prog_58_method_27_code (4 : Nat) (Option.some Jvm.ClassFile.FieldType.int)) ∈ lw_all := lw_g (lw_at lw_m6 53 rfl) rfl
theorem q1318 : (Jvm.Cond.methodLink "jdk/internal/util/ArraysSupport" (194 : Nat) ({ cls := "java/lang/Math", name := "max", desc := "(II)I" } : Jvm.MethodName)) ∈ lw_all := lw_g (lw_at lw_m6 54 rfl) rfl
theorem q1319 : (Jvm.Cond.constant "jdk/internal/util/ArraysSupport" (200 : Nat) (2147483639 : Int32)) ∈ lw_all := lw_g (lw_at lw_m6 55 rfl) rfl
theorem q1320 : (Jvm.Cond.methodLink "jdk/internal/util/ArraysSupport" (201 : Nat) ({ cls := "jdk/internal/util/ArraysSupport", name := "hugeLength", desc := "(II)I" } : Jvm.MethodName)) ∈ lw_all := lw_g (lw_at lw_m6 56 rfl) rfl
theorem q1321 : (Jvm.Cond.static ({ cls := "jdk/internal/util/ArraysSupport", name := "hugeLength", desc := "(II)I" } : Jvm.MethodName)) ∈ lw_all := lw_g (lw_at lw_m6 57 rfl) rfl
theorem q1322 : (Jvm.Cond.code ({ cls := "jdk/internal/util/ArraysSupport", name := "hugeLength", desc := "(II)I" } : Jvm.MethodName) prog_58_method_28_code (3 : Nat) (Option.some Jvm.ClassFile.FieldType.int)) ∈ lw_all := lw_g (lw_at lw_m6 58 rfl) rfl

/-! java/util/Arrays -/
set_option maxRecDepth 100000
def RJ17 : String := "java/util/Arrays"
abbrev cJ17_copyOf : ByteArray := prog_52_method_119_code
def yJ17_copyOf : MethodName := ⟨RJ17, "copyOf", "([Ljava/lang/Object;I)[Ljava/lang/Object;"⟩
def dkwJ17_copyOf_0 : List UInt8 := [42, 27, 42, 182, 0, 86, 184, 1, 44, 176]
abbrev dktJ17_copyOf_0 : List UInt8 := dkwJ17_copyOf_0 ++ []
theorem dksJ17_copyOf_0 : cJ17_copyOf.data.toList.drop 0 = dktJ17_copyOf_0 := by decide +kernel
theorem dJ17_copyOf_0 : decode cJ17_copyOf 0 = .ok (.aload_n 0, 1) := dk_42 (dk_at dksJ17_copyOf_0 0 rfl rfl)
theorem dJ17_copyOf_1 : decode cJ17_copyOf 1 = .ok (.iload_n 1, 1) := dk_27 (dk_at dksJ17_copyOf_0 1 rfl rfl)
theorem dJ17_copyOf_2 : decode cJ17_copyOf 2 = .ok (.aload_n 0, 1) := dk_42 (dk_at dksJ17_copyOf_0 2 rfl rfl)
theorem dJ17_copyOf_3 : decode cJ17_copyOf 3 = .ok (.invokevirtual 86, 3) := dk_182 0 86 (dk_at dksJ17_copyOf_0 3 rfl rfl)
theorem dJ17_copyOf_6 : decode cJ17_copyOf 6 = .ok (.invokestatic 300, 3) := dk_184 1 44 (dk_at dksJ17_copyOf_0 6 rfl rfl)
theorem dJ17_copyOf_9 : decode cJ17_copyOf 9 = .ok (.areturn, 1) := dk_176 (dk_at dksJ17_copyOf_0 9 rfl rfl)
abbrev cJ17_copyOf_2 : ByteArray := prog_52_method_120_code
def yJ17_copyOf_2 : MethodName := ⟨RJ17, "copyOf", "([Ljava/lang/Object;ILjava/lang/Class;)[Ljava/lang/Object;"⟩
def dkwJ17_copyOf_2_1 : List UInt8 := [78, 42, 3, 45, 3, 42, 190, 27, 184, 1, 48, 184, 0, 150, 45, 176]
abbrev dktJ17_copyOf_2_1 : List UInt8 := dkwJ17_copyOf_2_1 ++ []
def dkwJ17_copyOf_2_0 : List UInt8 := [44, 18, 110, 166, 0, 10, 27, 189, 0, 2, 167, 0, 14, 44, 182, 0, 90, 27, 184, 0, 95, 192, 0, 110]
abbrev dktJ17_copyOf_2_0 : List UInt8 := dkwJ17_copyOf_2_0 ++ dktJ17_copyOf_2_1
theorem dksJ17_copyOf_2_0 : cJ17_copyOf_2.data.toList.drop 0 = dktJ17_copyOf_2_0 := by decide +kernel
theorem dksJ17_copyOf_2_1 : cJ17_copyOf_2.data.toList.drop 24 = dktJ17_copyOf_2_1 := dk_seg dksJ17_copyOf_2_0 24 rfl rfl
theorem dJ17_copyOf_2_0 : decode cJ17_copyOf_2 0 = .ok (.aload_n 2, 1) := dk_44 (dk_at dksJ17_copyOf_2_0 0 rfl rfl)
theorem dJ17_copyOf_2_1 : decode cJ17_copyOf_2 1 = .ok (.ldc 110, 2) := dk_18 110 (dk_at dksJ17_copyOf_2_0 1 rfl rfl)
theorem dJ17_copyOf_2_3 : decode cJ17_copyOf_2 3 = .ok (.if_acmp .ne 10, 3) := dk_166 0 10 (dk_at dksJ17_copyOf_2_0 3 rfl rfl)
theorem dJ17_copyOf_2_6 : decode cJ17_copyOf_2 6 = .ok (.iload_n 1, 1) := dk_27 (dk_at dksJ17_copyOf_2_0 6 rfl rfl)
theorem dJ17_copyOf_2_7 : decode cJ17_copyOf_2 7 = .ok (.anewarray 2, 3) := dk_189 0 2 (dk_at dksJ17_copyOf_2_0 7 rfl rfl)
theorem dJ17_copyOf_2_10 : decode cJ17_copyOf_2 10 = .ok (.goto 14, 3) := dk_167 0 14 (dk_at dksJ17_copyOf_2_0 10 rfl rfl)
theorem dJ17_copyOf_2_13 : decode cJ17_copyOf_2 13 = .ok (.aload_n 2, 1) := dk_44 (dk_at dksJ17_copyOf_2_0 13 rfl rfl)
theorem dJ17_copyOf_2_14 : decode cJ17_copyOf_2 14 = .ok (.invokevirtual 90, 3) := dk_182 0 90 (dk_at dksJ17_copyOf_2_0 14 rfl rfl)
theorem dJ17_copyOf_2_17 : decode cJ17_copyOf_2 17 = .ok (.iload_n 1, 1) := dk_27 (dk_at dksJ17_copyOf_2_0 17 rfl rfl)
theorem dJ17_copyOf_2_18 : decode cJ17_copyOf_2 18 = .ok (.invokestatic 95, 3) := dk_184 0 95 (dk_at dksJ17_copyOf_2_0 18 rfl rfl)
theorem dJ17_copyOf_2_21 : decode cJ17_copyOf_2 21 = .ok (.checkcast 110, 3) := dk_192 0 110 (dk_at dksJ17_copyOf_2_0 21 rfl rfl)
theorem dJ17_copyOf_2_24 : decode cJ17_copyOf_2 24 = .ok (.astore_n 3, 1) := dk_78 (dk_at dksJ17_copyOf_2_1 0 rfl rfl)
theorem dJ17_copyOf_2_25 : decode cJ17_copyOf_2 25 = .ok (.aload_n 0, 1) := dk_42 (dk_at dksJ17_copyOf_2_1 1 rfl rfl)
theorem dJ17_copyOf_2_26 : decode cJ17_copyOf_2 26 = .ok (.iconst 0, 1) := dk_3 (dk_at dksJ17_copyOf_2_1 2 rfl rfl)
theorem dJ17_copyOf_2_27 : decode cJ17_copyOf_2 27 = .ok (.aload_n 3, 1) := dk_45 (dk_at dksJ17_copyOf_2_1 3 rfl rfl)
theorem dJ17_copyOf_2_28 : decode cJ17_copyOf_2 28 = .ok (.iconst 0, 1) := dk_3 (dk_at dksJ17_copyOf_2_1 4 rfl rfl)
theorem dJ17_copyOf_2_29 : decode cJ17_copyOf_2 29 = .ok (.aload_n 0, 1) := dk_42 (dk_at dksJ17_copyOf_2_1 5 rfl rfl)
theorem dJ17_copyOf_2_30 : decode cJ17_copyOf_2 30 = .ok (.arraylength, 1) := dk_190 (dk_at dksJ17_copyOf_2_1 6 rfl rfl)
theorem dJ17_copyOf_2_31 : decode cJ17_copyOf_2 31 = .ok (.iload_n 1, 1) := dk_27 (dk_at dksJ17_copyOf_2_1 7 rfl rfl)
theorem dJ17_copyOf_2_32 : decode cJ17_copyOf_2 32 = .ok (.invokestatic 304, 3) := dk_184 1 48 (dk_at dksJ17_copyOf_2_1 8 rfl rfl)
theorem dJ17_copyOf_2_35 : decode cJ17_copyOf_2 35 = .ok (.invokestatic 150, 3) := dk_184 0 150 (dk_at dksJ17_copyOf_2_1 11 rfl rfl)
theorem dJ17_copyOf_2_38 : decode cJ17_copyOf_2 38 = .ok (.aload_n 3, 1) := dk_45 (dk_at dksJ17_copyOf_2_1 14 rfl rfl)
theorem dJ17_copyOf_2_39 : decode cJ17_copyOf_2 39 = .ok (.areturn, 1) := dk_176 (dk_at dksJ17_copyOf_2_1 15 rfl rfl)
theorem q107 : (Jvm.Cond.initialized "java/util/Arrays") ∈ lw_all := lw_g (lw_at lw_m1 43 rfl) rfl
theorem q1324 : (Jvm.Cond.static ({ cls := "java/util/Arrays", name := "copyOf", desc := "([Ljava/lang/Object;I)[Ljava/lang/Object;" } : Jvm.MethodName)) ∈ lw_all := lw_g (lw_at lw_m6 60 rfl) rfl
theorem q1325 : (Jvm.Cond.code ({ cls := "java/util/Arrays", name := "copyOf", desc := "([Ljava/lang/Object;I)[Ljava/lang/Object;" } : Jvm.MethodName) prog_52_method_119_code (2 : Nat) (Option.some (Jvm.ClassFile.FieldType.array (Jvm.ClassFile.FieldType.object "java/lang/Object")))) ∈ lw_all := lw_g (lw_at lw_m6 61 rfl) rfl
theorem q1326 : (Jvm.Cond.methodLink "java/util/Arrays" (86 : Nat) ({ cls := "java/lang/Object", name := "getClass", desc := "()Ljava/lang/Class;" } : Jvm.MethodName)) ∈ lw_all := lw_g (lw_at lw_m6 62 rfl) rfl
theorem q1356 : (Jvm.Cond.methodLink "java/util/Arrays" (300 : Nat) ({ cls := "java/util/Arrays", name := "copyOf", desc := "([Ljava/lang/Object;ILjava/lang/Class;)[Ljava/lang/Object;" } : Jvm.MethodName)) ∈ lw_all := lw_g (lw_at lw_m6 92 rfl) rfl
theorem q1357 : (Jvm.Cond.static ({ cls := "java/util/Arrays", name := "copyOf", desc := "([Ljava/lang/Object;ILjava/lang/Class;)[Ljava/lang/Object;" } : Jvm.MethodName)) ∈ lw_all := lw_g (lw_at lw_m6 93 rfl) rfl
theorem q1358 : (Jvm.Cond.code ({ cls := "java/util/Arrays", name := "copyOf", desc := "([Ljava/lang/Object;ILjava/lang/Class;)[Ljava/lang/Object;" } : Jvm.MethodName) prog_52_method_120_code (4 : Nat) (Option.some (Jvm.ClassFile.FieldType.array (Jvm.ClassFile.FieldType.object "java/lang/Object")))) ∈ lw_all := lw_g (lw_at lw_m6 94 rfl) rfl
theorem q1359 : (Jvm.Cond.classLink "java/util/Arrays" (110 : Nat) "[Ljava/lang/Object;") ∈ lw_all := lw_g (lw_at lw_m6 95 rfl) rfl
theorem q1361 : (Jvm.Cond.classLink "java/util/Arrays" (2 : Nat) "java/lang/Object") ∈ lw_all := lw_g (lw_at lw_m6 97 rfl) rfl
theorem q1362 : (Jvm.Cond.methodLink "java/util/Arrays" (304 : Nat) ({ cls := "java/lang/Math", name := "min", desc := "(II)I" } : Jvm.MethodName)) ∈ lw_all := lw_g (lw_at lw_m6 98 rfl) rfl
theorem q1363 : (Jvm.Cond.methodLink "java/util/Arrays" (150 : Nat) ({ cls := "java/lang/System", name := "arraycopy", desc := "(Ljava/lang/Object;ILjava/lang/Object;II)V" } : Jvm.MethodName)) ∈ lw_all := lw_g (lw_at lw_m6 99 rfl) rfl

/-! java/util/Objects -/
set_option maxRecDepth 100000
def RJ18 : String := "java/util/Objects"
abbrev cJ18_checkIndex : ByteArray := prog_55_method_17_code
def yJ18_checkIndex : MethodName := ⟨RJ18, "checkIndex", "(II)I"⟩
def dkwJ18_checkIndex_0 : List UInt8 := [26, 27, 1, 184, 0, 105, 172]
abbrev dktJ18_checkIndex_0 : List UInt8 := dkwJ18_checkIndex_0 ++ []
theorem dksJ18_checkIndex_0 : cJ18_checkIndex.data.toList.drop 0 = dktJ18_checkIndex_0 := by decide +kernel
theorem dJ18_checkIndex_0 : decode cJ18_checkIndex 0 = .ok (.iload_n 0, 1) := dk_26 (dk_at dksJ18_checkIndex_0 0 rfl rfl)
theorem dJ18_checkIndex_1 : decode cJ18_checkIndex 1 = .ok (.iload_n 1, 1) := dk_27 (dk_at dksJ18_checkIndex_0 1 rfl rfl)
theorem dJ18_checkIndex_2 : decode cJ18_checkIndex 2 = .ok (.aconst_null, 1) := dk_1 (dk_at dksJ18_checkIndex_0 2 rfl rfl)
theorem dJ18_checkIndex_3 : decode cJ18_checkIndex 3 = .ok (.invokestatic 105, 3) := dk_184 0 105 (dk_at dksJ18_checkIndex_0 3 rfl rfl)
theorem dJ18_checkIndex_6 : decode cJ18_checkIndex 6 = .ok (.ireturn, 1) := dk_172 (dk_at dksJ18_checkIndex_0 6 rfl rfl)
theorem q109 : (Jvm.Cond.initialized "java/util/Objects") ∈ lw_all := lw_g (lw_at lw_m1 45 rfl) rfl
theorem q212 : (Jvm.Cond.static ({ cls := "java/util/Objects", name := "checkIndex", desc := "(II)I" } : Jvm.MethodName)) ∈ lw_all := lw_g (lw_at lw_m1 148 rfl) rfl
theorem q213 : (Jvm.Cond.code ({ cls := "java/util/Objects", name := "checkIndex", desc := "(II)I" } : Jvm.MethodName) prog_55_method_17_code (2 : Nat) (Option.some Jvm.ClassFile.FieldType.int)) ∈ lw_all := lw_g (lw_at lw_m1 149 rfl) rfl
theorem q214 : (Jvm.Cond.methodLink "java/util/Objects" (105 : Nat) ({ cls := "jdk/internal/util/Preconditions", name := "checkIndex", desc := "(IILjava/util/function/BiFunction;)I" } : Jvm.MethodName)) ∈ lw_all := lw_g (lw_at lw_m1 150 rfl) rfl

/-! jdk/internal/util/Preconditions -/
set_option maxRecDepth 100000
def RJ19 : String := "jdk/internal/util/Preconditions"
abbrev cJ19_checkIndex : ByteArray := prog_59_method_11_code
def yJ19_checkIndex : MethodName := ⟨RJ19, "checkIndex", "(IILjava/util/function/BiFunction;)I"⟩
def dkwJ19_checkIndex_0 : List UInt8 := [26, 155, 0, 8, 26, 27, 161, 0, 10, 44, 26, 27, 184, 0, 95, 191, 26, 172]
abbrev dktJ19_checkIndex_0 : List UInt8 := dkwJ19_checkIndex_0 ++ []
theorem dksJ19_checkIndex_0 : cJ19_checkIndex.data.toList.drop 0 = dktJ19_checkIndex_0 := by decide +kernel
theorem dJ19_checkIndex_0 : decode cJ19_checkIndex 0 = .ok (.iload_n 0, 1) := dk_26 (dk_at dksJ19_checkIndex_0 0 rfl rfl)
theorem dJ19_checkIndex_1 : decode cJ19_checkIndex 1 = .ok (.ifCond .lt 8, 3) := dk_155 0 8 (dk_at dksJ19_checkIndex_0 1 rfl rfl)
theorem dJ19_checkIndex_4 : decode cJ19_checkIndex 4 = .ok (.iload_n 0, 1) := dk_26 (dk_at dksJ19_checkIndex_0 4 rfl rfl)
theorem dJ19_checkIndex_5 : decode cJ19_checkIndex 5 = .ok (.iload_n 1, 1) := dk_27 (dk_at dksJ19_checkIndex_0 5 rfl rfl)
theorem dJ19_checkIndex_6 : decode cJ19_checkIndex 6 = .ok (.if_icmp .lt 10, 3) := dk_161 0 10 (dk_at dksJ19_checkIndex_0 6 rfl rfl)
theorem dJ19_checkIndex_9 : decode cJ19_checkIndex 9 = .ok (.aload_n 2, 1) := dk_44 (dk_at dksJ19_checkIndex_0 9 rfl rfl)
theorem dJ19_checkIndex_10 : decode cJ19_checkIndex 10 = .ok (.iload_n 0, 1) := dk_26 (dk_at dksJ19_checkIndex_0 10 rfl rfl)
theorem dJ19_checkIndex_11 : decode cJ19_checkIndex 11 = .ok (.iload_n 1, 1) := dk_27 (dk_at dksJ19_checkIndex_0 11 rfl rfl)
theorem dJ19_checkIndex_12 : decode cJ19_checkIndex 12 = .ok (.invokestatic 95, 3) := dk_184 0 95 (dk_at dksJ19_checkIndex_0 12 rfl rfl)
theorem dJ19_checkIndex_15 : decode cJ19_checkIndex 15 = .ok (.athrow, 1) := dk_191 (dk_at dksJ19_checkIndex_0 15 rfl rfl)
theorem dJ19_checkIndex_16 : decode cJ19_checkIndex 16 = .ok (.iload_n 0, 1) := dk_26 (dk_at dksJ19_checkIndex_0 16 rfl rfl)
theorem dJ19_checkIndex_17 : decode cJ19_checkIndex 17 = .ok (.ireturn, 1) := dk_172 (dk_at dksJ19_checkIndex_0 17 rfl rfl)
theorem q110 : (Jvm.Cond.initialized "jdk/internal/util/Preconditions") ∈ lw_all := lw_g (lw_at lw_m1 46 rfl) rfl
theorem q215 : (Jvm.Cond.static ({ cls := "jdk/internal/util/Preconditions", name := "checkIndex", desc := "(IILjava/util/function/BiFunction;)I" } : Jvm.MethodName)) ∈ lw_all := lw_g (lw_at lw_m1 151 rfl) rfl
theorem q216 : (Jvm.Cond.code ({ cls := "jdk/internal/util/Preconditions", name := "checkIndex", desc := "(IILjava/util/function/BiFunction;)I" } : Jvm.MethodName) prog_59_method_11_code (3 : Nat) (Option.some Jvm.ClassFile.FieldType.int)) ∈ lw_all := lw_g (lw_at lw_m1 152 rfl) rfl

/-! RoundingAuditor$Orders -/
set_option maxRecDepth 100000
def RX25 : String := "RoundingAuditor$Orders"
def TX25 : u_T := fun k => match k with
  | 0 => ("RoundingAuditor$Orders", "x", "LRoundingAuditor$Ledger;", true)
  | 1 => ("RoundingAuditor$Orders", "n", "I", true)
  | 2 => ("RoundingAuditor$Orders", "isIn", "[Z", true)
  | 3 => ("RoundingAuditor$Orders", "least", "D", false)
  | 4 => ("RoundingAuditor$Orders", "greatest", "D", false)
  | 5 => ("RoundingAuditor$Orders", "isAny", "Z", false)
  | 6 => ("RoundingAuditor$Orders", "wanted", "D", true)
  | _ => ("RoundingAuditor$Orders", "isReached", "Z", false)
def tyX25 : Nat → FieldType := fun k => match k with
  | 0 => .object "RoundingAuditor$Ledger"
  | 1 => .int
  | 2 => .array .boolean
  | 3 => .double
  | 4 => .double
  | 5 => .boolean
  | 6 => .double
  | _ => .boolean
abbrev wsX250 : List Cond := u_ws RX25 TX25 8
theorem nmX25 : ∀ a, a < 8 → ∀ b, b < 8 → a ≠ b → (TX25 a).2.1 ≠ (TX25 b).2.1 := by decide +kernel
theorem tyX25_ok : ∀ k, k < 8 → parseFieldDescriptor (TX25 k).2.2.1 = some (tyX25 k) := by decide +kernel
abbrev cX25_init : ByteArray := prog_19_method_1_code
def yX25_init : MethodName := ⟨RX25, "<init>", "(LRoundingAuditor$Ledger;D)V"⟩
def dkwX25_init_1 : List UInt8 := [181, 0, 25, 42, 40, 181, 0, 29, 177]
abbrev dktX25_init_1 : List UInt8 := dkwX25_init_1 ++ []
def dkwX25_init_0 : List UInt8 := [42, 183, 0, 3, 42, 16, 7, 188, 4, 181, 0, 9, 42, 43, 181, 0, 15, 42, 43, 182, 0, 19]
abbrev dktX25_init_0 : List UInt8 := dkwX25_init_0 ++ dktX25_init_1
theorem dksX25_init_0 : cX25_init.data.toList.drop 0 = dktX25_init_0 := by decide +kernel
theorem dksX25_init_1 : cX25_init.data.toList.drop 22 = dktX25_init_1 := dk_seg dksX25_init_0 22 rfl rfl
theorem dX25_init_0 : decode cX25_init 0 = .ok (.aload_n 0, 1) := dk_42 (dk_at dksX25_init_0 0 rfl rfl)
theorem dX25_init_1 : decode cX25_init 1 = .ok (.invokespecial 3, 3) := dk_183 0 3 (dk_at dksX25_init_0 1 rfl rfl)
theorem dX25_init_4 : decode cX25_init 4 = .ok (.aload_n 0, 1) := dk_42 (dk_at dksX25_init_0 4 rfl rfl)
theorem dX25_init_5 : decode cX25_init 5 = .ok (.bipush 7, 2) := dk_16 7 (dk_at dksX25_init_0 5 rfl rfl)
theorem dX25_init_7 : decode cX25_init 7 = .ok (.newarray .boolean, 2) := dk_188_4 (dk_at dksX25_init_0 7 rfl rfl)
theorem dX25_init_9 : decode cX25_init 9 = .ok (.putfield 9, 3) := dk_181 0 9 (dk_at dksX25_init_0 9 rfl rfl)
theorem dX25_init_12 : decode cX25_init 12 = .ok (.aload_n 0, 1) := dk_42 (dk_at dksX25_init_0 12 rfl rfl)
theorem dX25_init_13 : decode cX25_init 13 = .ok (.aload_n 1, 1) := dk_43 (dk_at dksX25_init_0 13 rfl rfl)
theorem dX25_init_14 : decode cX25_init 14 = .ok (.putfield 15, 3) := dk_181 0 15 (dk_at dksX25_init_0 14 rfl rfl)
theorem dX25_init_17 : decode cX25_init 17 = .ok (.aload_n 0, 1) := dk_42 (dk_at dksX25_init_0 17 rfl rfl)
theorem dX25_init_18 : decode cX25_init 18 = .ok (.aload_n 1, 1) := dk_43 (dk_at dksX25_init_0 18 rfl rfl)
theorem dX25_init_19 : decode cX25_init 19 = .ok (.invokevirtual 19, 3) := dk_182 0 19 (dk_at dksX25_init_0 19 rfl rfl)
theorem dX25_init_22 : decode cX25_init 22 = .ok (.putfield 25, 3) := dk_181 0 25 (dk_at dksX25_init_1 0 rfl rfl)
theorem dX25_init_25 : decode cX25_init 25 = .ok (.aload_n 0, 1) := dk_42 (dk_at dksX25_init_1 3 rfl rfl)
theorem dX25_init_26 : decode cX25_init 26 = .ok (.dload_n 2, 1) := dk_40 (dk_at dksX25_init_1 4 rfl rfl)
theorem dX25_init_27 : decode cX25_init 27 = .ok (.putfield 29, 3) := dk_181 0 29 (dk_at dksX25_init_1 5 rfl rfl)
theorem dX25_init_30 : decode cX25_init 30 = .ok (.return_, 1) := dk_177 (dk_at dksX25_init_1 8 rfl rfl)
abbrev cX25_go : ByteArray := prog_19_method_2_code
def yX25_go : MethodName := ⟨RX25, "go", "(ID)V"⟩
def dkwX25_go_7 : List UInt8 := [132, 4, 1, 167, 255, 178, 177]
abbrev dktX25_go_7 : List UInt8 := dkwX25_go_7 ++ []
def dkwX25_go_6 : List UInt8 := [180, 0, 15, 21, 4, 182, 0, 55, 182, 0, 59, 182, 0, 62, 42, 180, 0, 9, 21, 4, 3, 84]
abbrev dktX25_go_6 : List UInt8 := dkwX25_go_6 ++ dktX25_go_7
def dkwX25_go_5 : List UInt8 := [96, 27, 154, 0, 15, 42, 180, 0, 15, 21, 4, 182, 0, 55, 167, 0, 20, 42, 180, 0, 15, 40, 42]
abbrev dktX25_go_5 : List UInt8 := dkwX25_go_5 ++ dktX25_go_6
def dkwX25_go_4 : List UInt8 := [162, 0, 75, 42, 180, 0, 9, 21, 4, 51, 154, 0, 59, 42, 180, 0, 9, 21, 4, 4, 84, 42, 27, 4]
abbrev dktX25_go_4 : List UInt8 := dkwX25_go_4 ++ dktX25_go_5
def dkwX25_go_3 : List UInt8 := [154, 0, 7, 4, 167, 0, 4, 3, 128, 181, 0, 52, 177, 3, 54, 4, 21, 4, 42, 180, 0, 25]
abbrev dktX25_go_3 : List UInt8 := dkwX25_go_3 ++ dktX25_go_4
def dkwX25_go_2 : List UInt8 := [167, 0, 4, 40, 181, 0, 46, 42, 4, 181, 0, 33, 42, 89, 180, 0, 52, 40, 42, 180, 0, 29, 151]
abbrev dktX25_go_2 : List UInt8 := dkwX25_go_2 ++ dktX25_go_3
def dkwX25_go_1 : List UInt8 := [167, 0, 4, 40, 181, 0, 37, 42, 42, 180, 0, 33, 153, 0, 14, 42, 180, 0, 46, 40, 184, 0, 49]
abbrev dktX25_go_1 : List UInt8 := dkwX25_go_1 ++ dktX25_go_2
def dkwX25_go_0 : List UInt8 := [27, 42, 180, 0, 25, 160, 0, 78, 42, 42, 180, 0, 33, 153, 0, 14, 42, 180, 0, 37, 40, 184, 0, 40]
abbrev dktX25_go_0 : List UInt8 := dkwX25_go_0 ++ dktX25_go_1
theorem dksX25_go_0 : cX25_go.data.toList.drop 0 = dktX25_go_0 := by decide +kernel
theorem dksX25_go_1 : cX25_go.data.toList.drop 24 = dktX25_go_1 := dk_seg dksX25_go_0 24 rfl rfl
theorem dksX25_go_2 : cX25_go.data.toList.drop 47 = dktX25_go_2 := dk_seg dksX25_go_1 23 rfl rfl
theorem dksX25_go_3 : cX25_go.data.toList.drop 70 = dktX25_go_3 := dk_seg dksX25_go_2 23 rfl rfl
theorem dksX25_go_4 : cX25_go.data.toList.drop 92 = dktX25_go_4 := dk_seg dksX25_go_3 22 rfl rfl
theorem dksX25_go_5 : cX25_go.data.toList.drop 116 = dktX25_go_5 := dk_seg dksX25_go_4 24 rfl rfl
theorem dksX25_go_6 : cX25_go.data.toList.drop 139 = dktX25_go_6 := dk_seg dksX25_go_5 23 rfl rfl
theorem dksX25_go_7 : cX25_go.data.toList.drop 161 = dktX25_go_7 := dk_seg dksX25_go_6 22 rfl rfl
theorem dX25_go_0 : decode cX25_go 0 = .ok (.iload_n 1, 1) := dk_27 (dk_at dksX25_go_0 0 rfl rfl)
theorem dX25_go_1 : decode cX25_go 1 = .ok (.aload_n 0, 1) := dk_42 (dk_at dksX25_go_0 1 rfl rfl)
theorem dX25_go_2 : decode cX25_go 2 = .ok (.getfield 25, 3) := dk_180 0 25 (dk_at dksX25_go_0 2 rfl rfl)
theorem dX25_go_5 : decode cX25_go 5 = .ok (.if_icmp .ne 78, 3) := dk_160 0 78 (dk_at dksX25_go_0 5 rfl rfl)
theorem dX25_go_8 : decode cX25_go 8 = .ok (.aload_n 0, 1) := dk_42 (dk_at dksX25_go_0 8 rfl rfl)
theorem dX25_go_9 : decode cX25_go 9 = .ok (.aload_n 0, 1) := dk_42 (dk_at dksX25_go_0 9 rfl rfl)
theorem dX25_go_10 : decode cX25_go 10 = .ok (.getfield 33, 3) := dk_180 0 33 (dk_at dksX25_go_0 10 rfl rfl)
theorem dX25_go_13 : decode cX25_go 13 = .ok (.ifCond .eq 14, 3) := dk_153 0 14 (dk_at dksX25_go_0 13 rfl rfl)
theorem dX25_go_16 : decode cX25_go 16 = .ok (.aload_n 0, 1) := dk_42 (dk_at dksX25_go_0 16 rfl rfl)
theorem dX25_go_17 : decode cX25_go 17 = .ok (.getfield 37, 3) := dk_180 0 37 (dk_at dksX25_go_0 17 rfl rfl)
theorem dX25_go_20 : decode cX25_go 20 = .ok (.dload_n 2, 1) := dk_40 (dk_at dksX25_go_0 20 rfl rfl)
theorem dX25_go_21 : decode cX25_go 21 = .ok (.invokestatic 40, 3) := dk_184 0 40 (dk_at dksX25_go_0 21 rfl rfl)
theorem dX25_go_24 : decode cX25_go 24 = .ok (.goto 4, 3) := dk_167 0 4 (dk_at dksX25_go_1 0 rfl rfl)
theorem dX25_go_27 : decode cX25_go 27 = .ok (.dload_n 2, 1) := dk_40 (dk_at dksX25_go_1 3 rfl rfl)
theorem dX25_go_28 : decode cX25_go 28 = .ok (.putfield 37, 3) := dk_181 0 37 (dk_at dksX25_go_1 4 rfl rfl)
theorem dX25_go_31 : decode cX25_go 31 = .ok (.aload_n 0, 1) := dk_42 (dk_at dksX25_go_1 7 rfl rfl)
theorem dX25_go_32 : decode cX25_go 32 = .ok (.aload_n 0, 1) := dk_42 (dk_at dksX25_go_1 8 rfl rfl)
theorem dX25_go_33 : decode cX25_go 33 = .ok (.getfield 33, 3) := dk_180 0 33 (dk_at dksX25_go_1 9 rfl rfl)
theorem dX25_go_36 : decode cX25_go 36 = .ok (.ifCond .eq 14, 3) := dk_153 0 14 (dk_at dksX25_go_1 12 rfl rfl)
theorem dX25_go_39 : decode cX25_go 39 = .ok (.aload_n 0, 1) := dk_42 (dk_at dksX25_go_1 15 rfl rfl)
theorem dX25_go_40 : decode cX25_go 40 = .ok (.getfield 46, 3) := dk_180 0 46 (dk_at dksX25_go_1 16 rfl rfl)
theorem dX25_go_43 : decode cX25_go 43 = .ok (.dload_n 2, 1) := dk_40 (dk_at dksX25_go_1 19 rfl rfl)
theorem dX25_go_44 : decode cX25_go 44 = .ok (.invokestatic 49, 3) := dk_184 0 49 (dk_at dksX25_go_1 20 rfl rfl)
theorem dX25_go_47 : decode cX25_go 47 = .ok (.goto 4, 3) := dk_167 0 4 (dk_at dksX25_go_2 0 rfl rfl)
theorem dX25_go_50 : decode cX25_go 50 = .ok (.dload_n 2, 1) := dk_40 (dk_at dksX25_go_2 3 rfl rfl)
theorem dX25_go_51 : decode cX25_go 51 = .ok (.putfield 46, 3) := dk_181 0 46 (dk_at dksX25_go_2 4 rfl rfl)
theorem dX25_go_54 : decode cX25_go 54 = .ok (.aload_n 0, 1) := dk_42 (dk_at dksX25_go_2 7 rfl rfl)
theorem dX25_go_55 : decode cX25_go 55 = .ok (.iconst 1, 1) := dk_4 (dk_at dksX25_go_2 8 rfl rfl)
theorem dX25_go_56 : decode cX25_go 56 = .ok (.putfield 33, 3) := dk_181 0 33 (dk_at dksX25_go_2 9 rfl rfl)
theorem dX25_go_59 : decode cX25_go 59 = .ok (.aload_n 0, 1) := dk_42 (dk_at dksX25_go_2 12 rfl rfl)
theorem dX25_go_60 : decode cX25_go 60 = .ok (.dup, 1) := dk_89 (dk_at dksX25_go_2 13 rfl rfl)
theorem dX25_go_61 : decode cX25_go 61 = .ok (.getfield 52, 3) := dk_180 0 52 (dk_at dksX25_go_2 14 rfl rfl)
theorem dX25_go_64 : decode cX25_go 64 = .ok (.dload_n 2, 1) := dk_40 (dk_at dksX25_go_2 17 rfl rfl)
theorem dX25_go_65 : decode cX25_go 65 = .ok (.aload_n 0, 1) := dk_42 (dk_at dksX25_go_2 18 rfl rfl)
theorem dX25_go_66 : decode cX25_go 66 = .ok (.getfield 29, 3) := dk_180 0 29 (dk_at dksX25_go_2 19 rfl rfl)
theorem dX25_go_69 : decode cX25_go 69 = .ok (.dcmp .l, 1) := dk_151 (dk_at dksX25_go_2 22 rfl rfl)
theorem dX25_go_70 : decode cX25_go 70 = .ok (.ifCond .ne 7, 3) := dk_154 0 7 (dk_at dksX25_go_3 0 rfl rfl)
theorem dX25_go_73 : decode cX25_go 73 = .ok (.iconst 1, 1) := dk_4 (dk_at dksX25_go_3 3 rfl rfl)
theorem dX25_go_74 : decode cX25_go 74 = .ok (.goto 4, 3) := dk_167 0 4 (dk_at dksX25_go_3 4 rfl rfl)
theorem dX25_go_77 : decode cX25_go 77 = .ok (.iconst 0, 1) := dk_3 (dk_at dksX25_go_3 7 rfl rfl)
theorem dX25_go_78 : decode cX25_go 78 = .ok (.ior, 1) := dk_128 (dk_at dksX25_go_3 8 rfl rfl)
theorem dX25_go_79 : decode cX25_go 79 = .ok (.putfield 52, 3) := dk_181 0 52 (dk_at dksX25_go_3 9 rfl rfl)
theorem dX25_go_82 : decode cX25_go 82 = .ok (.return_, 1) := dk_177 (dk_at dksX25_go_3 12 rfl rfl)
theorem dX25_go_83 : decode cX25_go 83 = .ok (.iconst 0, 1) := dk_3 (dk_at dksX25_go_3 13 rfl rfl)
theorem dX25_go_84 : decode cX25_go 84 = .ok (.istore 4, 2) := dk_54 4 (dk_at dksX25_go_3 14 rfl rfl)
theorem dX25_go_86 : decode cX25_go 86 = .ok (.iload 4, 2) := dk_21 4 (dk_at dksX25_go_3 16 rfl rfl)
theorem dX25_go_88 : decode cX25_go 88 = .ok (.aload_n 0, 1) := dk_42 (dk_at dksX25_go_3 18 rfl rfl)
theorem dX25_go_89 : decode cX25_go 89 = .ok (.getfield 25, 3) := dk_180 0 25 (dk_at dksX25_go_3 19 rfl rfl)
theorem dX25_go_92 : decode cX25_go 92 = .ok (.if_icmp .ge 75, 3) := dk_162 0 75 (dk_at dksX25_go_4 0 rfl rfl)
theorem dX25_go_95 : decode cX25_go 95 = .ok (.aload_n 0, 1) := dk_42 (dk_at dksX25_go_4 3 rfl rfl)
theorem dX25_go_96 : decode cX25_go 96 = .ok (.getfield 9, 3) := dk_180 0 9 (dk_at dksX25_go_4 4 rfl rfl)
theorem dX25_go_99 : decode cX25_go 99 = .ok (.iload 4, 2) := dk_21 4 (dk_at dksX25_go_4 7 rfl rfl)
theorem dX25_go_101 : decode cX25_go 101 = .ok (.baload, 1) := dk_51 (dk_at dksX25_go_4 9 rfl rfl)
theorem dX25_go_102 : decode cX25_go 102 = .ok (.ifCond .ne 59, 3) := dk_154 0 59 (dk_at dksX25_go_4 10 rfl rfl)
theorem dX25_go_105 : decode cX25_go 105 = .ok (.aload_n 0, 1) := dk_42 (dk_at dksX25_go_4 13 rfl rfl)
theorem dX25_go_106 : decode cX25_go 106 = .ok (.getfield 9, 3) := dk_180 0 9 (dk_at dksX25_go_4 14 rfl rfl)
theorem dX25_go_109 : decode cX25_go 109 = .ok (.iload 4, 2) := dk_21 4 (dk_at dksX25_go_4 17 rfl rfl)
theorem dX25_go_111 : decode cX25_go 111 = .ok (.iconst 1, 1) := dk_4 (dk_at dksX25_go_4 19 rfl rfl)
theorem dX25_go_112 : decode cX25_go 112 = .ok (.bastore, 1) := dk_84 (dk_at dksX25_go_4 20 rfl rfl)
theorem dX25_go_113 : decode cX25_go 113 = .ok (.aload_n 0, 1) := dk_42 (dk_at dksX25_go_4 21 rfl rfl)
theorem dX25_go_114 : decode cX25_go 114 = .ok (.iload_n 1, 1) := dk_27 (dk_at dksX25_go_4 22 rfl rfl)
theorem dX25_go_115 : decode cX25_go 115 = .ok (.iconst 1, 1) := dk_4 (dk_at dksX25_go_4 23 rfl rfl)
theorem dX25_go_116 : decode cX25_go 116 = .ok (.iadd, 1) := dk_96 (dk_at dksX25_go_5 0 rfl rfl)
theorem dX25_go_117 : decode cX25_go 117 = .ok (.iload_n 1, 1) := dk_27 (dk_at dksX25_go_5 1 rfl rfl)
theorem dX25_go_118 : decode cX25_go 118 = .ok (.ifCond .ne 15, 3) := dk_154 0 15 (dk_at dksX25_go_5 2 rfl rfl)
theorem dX25_go_121 : decode cX25_go 121 = .ok (.aload_n 0, 1) := dk_42 (dk_at dksX25_go_5 5 rfl rfl)
theorem dX25_go_122 : decode cX25_go 122 = .ok (.getfield 15, 3) := dk_180 0 15 (dk_at dksX25_go_5 6 rfl rfl)
theorem dX25_go_125 : decode cX25_go 125 = .ok (.iload 4, 2) := dk_21 4 (dk_at dksX25_go_5 9 rfl rfl)
theorem dX25_go_127 : decode cX25_go 127 = .ok (.invokevirtual 55, 3) := dk_182 0 55 (dk_at dksX25_go_5 11 rfl rfl)
theorem dX25_go_130 : decode cX25_go 130 = .ok (.goto 20, 3) := dk_167 0 20 (dk_at dksX25_go_5 14 rfl rfl)
theorem dX25_go_133 : decode cX25_go 133 = .ok (.aload_n 0, 1) := dk_42 (dk_at dksX25_go_5 17 rfl rfl)
theorem dX25_go_134 : decode cX25_go 134 = .ok (.getfield 15, 3) := dk_180 0 15 (dk_at dksX25_go_5 18 rfl rfl)
theorem dX25_go_137 : decode cX25_go 137 = .ok (.dload_n 2, 1) := dk_40 (dk_at dksX25_go_5 21 rfl rfl)
theorem dX25_go_138 : decode cX25_go 138 = .ok (.aload_n 0, 1) := dk_42 (dk_at dksX25_go_5 22 rfl rfl)
theorem dX25_go_139 : decode cX25_go 139 = .ok (.getfield 15, 3) := dk_180 0 15 (dk_at dksX25_go_6 0 rfl rfl)
theorem dX25_go_142 : decode cX25_go 142 = .ok (.iload 4, 2) := dk_21 4 (dk_at dksX25_go_6 3 rfl rfl)
theorem dX25_go_144 : decode cX25_go 144 = .ok (.invokevirtual 55, 3) := dk_182 0 55 (dk_at dksX25_go_6 5 rfl rfl)
theorem dX25_go_147 : decode cX25_go 147 = .ok (.invokevirtual 59, 3) := dk_182 0 59 (dk_at dksX25_go_6 8 rfl rfl)
theorem dX25_go_150 : decode cX25_go 150 = .ok (.invokevirtual 62, 3) := dk_182 0 62 (dk_at dksX25_go_6 11 rfl rfl)
theorem dX25_go_153 : decode cX25_go 153 = .ok (.aload_n 0, 1) := dk_42 (dk_at dksX25_go_6 14 rfl rfl)
theorem dX25_go_154 : decode cX25_go 154 = .ok (.getfield 9, 3) := dk_180 0 9 (dk_at dksX25_go_6 15 rfl rfl)
theorem dX25_go_157 : decode cX25_go 157 = .ok (.iload 4, 2) := dk_21 4 (dk_at dksX25_go_6 18 rfl rfl)
theorem dX25_go_159 : decode cX25_go 159 = .ok (.iconst 0, 1) := dk_3 (dk_at dksX25_go_6 20 rfl rfl)
theorem dX25_go_160 : decode cX25_go 160 = .ok (.bastore, 1) := dk_84 (dk_at dksX25_go_6 21 rfl rfl)
theorem dX25_go_161 : decode cX25_go 161 = .ok (.iinc 4 1, 3) := dk_132 4 1 (dk_at dksX25_go_7 0 rfl rfl)
theorem dX25_go_164 : decode cX25_go 164 = .ok (.goto (-78), 3) := dk_167 255 178 (dk_at dksX25_go_7 3 rfl rfl)
theorem dX25_go_167 : decode cX25_go 167 = .ok (.return_, 1) := dk_177 (dk_at dksX25_go_7 6 rfl rfl)
theorem q111 : (Jvm.Cond.initialized "RoundingAuditor$Orders") ∈ lw_all := lw_g (lw_at lw_m1 47 rfl) rfl
theorem q1344 : (Jvm.Cond.selects "RoundingAuditor$Orders" ({ cls := "java/lang/Object", name := "getClass", desc := "()Ljava/lang/Class;" } : Jvm.MethodName) ({ cls := "java/lang/Object", name := "getClass", desc := "()Ljava/lang/Class;" } : Jvm.MethodName)) ∈ lw_all := lw_g (lw_at lw_m6 80 rfl) rfl
theorem q1430 : (Jvm.Cond.instantiable "RoundingAuditor$Orders" (8 : Nat)) ∈ lw_all := lw_g (lw_at lw_m6 166 rfl) rfl
theorem q1432 : (Jvm.Cond.instanceMethod ({ cls := "RoundingAuditor$Orders", name := "<init>", desc := "(LRoundingAuditor$Ledger;D)V" } : Jvm.MethodName)) ∈ lw_all := lw_g (lw_at lw_m6 168 rfl) rfl
theorem q1433 : (Jvm.Cond.code ({ cls := "RoundingAuditor$Orders", name := "<init>", desc := "(LRoundingAuditor$Ledger;D)V" } : Jvm.MethodName) prog_19_method_1_code (4 : Nat) (Option.none : Option Jvm.ClassFile.FieldType)) ∈ lw_all := lw_g (lw_at lw_m6 169 rfl) rfl
theorem q1434 : (Jvm.Cond.methodLink "RoundingAuditor$Orders" (3 : Nat) ({ cls := "java/lang/Object", name := "<init>", desc := "()V" } : Jvm.MethodName)) ∈ lw_all := lw_g (lw_at lw_m6 170 rfl) rfl
theorem q1435 : (Jvm.Cond.methodLink "RoundingAuditor$Orders" (19 : Nat) ({ cls := "RoundingAuditor$Ledger", name := "length", desc := "()I" } : Jvm.MethodName)) ∈ lw_all := lw_g (lw_at lw_m6 171 rfl) rfl
theorem q1436 : (Jvm.Cond.fieldLink "RoundingAuditor$Orders" (15 : Nat) "RoundingAuditor$Orders" "x" "LRoundingAuditor$Ledger;") ∈ lw_all := lw_g (lw_at lw_m6 172 rfl) rfl
theorem q1437 : (Jvm.Cond.fieldLink "RoundingAuditor$Orders" (25 : Nat) "RoundingAuditor$Orders" "n" "I") ∈ lw_all := lw_g (lw_at lw_m6 173 rfl) rfl
theorem q1438 : (Jvm.Cond.fieldLink "RoundingAuditor$Orders" (9 : Nat) "RoundingAuditor$Orders" "isIn" "[Z") ∈ lw_all := lw_g (lw_at lw_m6 174 rfl) rfl
theorem q1439 : (Jvm.Cond.fieldLink "RoundingAuditor$Orders" (37 : Nat) "RoundingAuditor$Orders" "least" "D") ∈ lw_all := lw_g (lw_at lw_m6 175 rfl) rfl
theorem q1441 : (Jvm.Cond.fieldLink "RoundingAuditor$Orders" (46 : Nat) "RoundingAuditor$Orders" "greatest" "D") ∈ lw_all := lw_g (lw_at lw_m6 177 rfl) rfl
theorem q1443 : (Jvm.Cond.fieldLink "RoundingAuditor$Orders" (33 : Nat) "RoundingAuditor$Orders" "isAny" "Z") ∈ lw_all := lw_g (lw_at lw_m6 179 rfl) rfl
theorem q1444 : (Jvm.Cond.fieldLink "RoundingAuditor$Orders" (29 : Nat) "RoundingAuditor$Orders" "wanted" "D") ∈ lw_all := lw_g (lw_at lw_m6 180 rfl) rfl
theorem q1445 : (Jvm.Cond.fieldLink "RoundingAuditor$Orders" (52 : Nat) "RoundingAuditor$Orders" "isReached" "Z") ∈ lw_all := lw_g (lw_at lw_m6 181 rfl) rfl
theorem q1447 : (Jvm.Cond.laysFinal "RoundingAuditor$Orders" "RoundingAuditor$Orders" "x" "LRoundingAuditor$Ledger;") ∈ lw_all := lw_g (lw_at lw_m6 183 rfl) rfl
theorem q1448 : (Jvm.Cond.soleField "RoundingAuditor$Orders" "x") ∈ lw_all := lw_g (lw_at lw_m6 184 rfl) rfl
theorem q1449 : (Jvm.Cond.laysFinal "RoundingAuditor$Orders" "RoundingAuditor$Orders" "n" "I") ∈ lw_all := lw_g (lw_at lw_m6 185 rfl) rfl
theorem q1450 : (Jvm.Cond.soleField "RoundingAuditor$Orders" "n") ∈ lw_all := lw_g (lw_at lw_m6 186 rfl) rfl
theorem q1451 : (Jvm.Cond.laysFinal "RoundingAuditor$Orders" "RoundingAuditor$Orders" "isIn" "[Z") ∈ lw_all := lw_g (lw_at lw_m6 187 rfl) rfl
theorem q1452 : (Jvm.Cond.soleField "RoundingAuditor$Orders" "isIn") ∈ lw_all := lw_g (lw_at lw_m6 188 rfl) rfl
theorem q1453 : (Jvm.Cond.lays "RoundingAuditor$Orders" "RoundingAuditor$Orders" "least" "D") ∈ lw_all := lw_g (lw_at lw_m6 189 rfl) rfl
theorem q1454 : (Jvm.Cond.soleField "RoundingAuditor$Orders" "least") ∈ lw_all := lw_g (lw_at lw_m6 190 rfl) rfl
theorem q1455 : (Jvm.Cond.lays "RoundingAuditor$Orders" "RoundingAuditor$Orders" "greatest" "D") ∈ lw_all := lw_g (lw_at lw_m6 191 rfl) rfl
theorem q1456 : (Jvm.Cond.soleField "RoundingAuditor$Orders" "greatest") ∈ lw_all := lw_g (lw_at lw_m6 192 rfl) rfl
theorem q1457 : (Jvm.Cond.lays "RoundingAuditor$Orders" "RoundingAuditor$Orders" "isAny" "Z") ∈ lw_all := lw_g (lw_at lw_m6 193 rfl) rfl
theorem q1458 : (Jvm.Cond.soleField "RoundingAuditor$Orders" "isAny") ∈ lw_all := lw_g (lw_at lw_m6 194 rfl) rfl
theorem q1459 : (Jvm.Cond.laysFinal "RoundingAuditor$Orders" "RoundingAuditor$Orders" "wanted" "D") ∈ lw_all := lw_g (lw_at lw_m6 195 rfl) rfl
theorem q1460 : (Jvm.Cond.soleField "RoundingAuditor$Orders" "wanted") ∈ lw_all := lw_g (lw_at lw_m6 196 rfl) rfl
theorem q1461 : (Jvm.Cond.lays "RoundingAuditor$Orders" "RoundingAuditor$Orders" "isReached" "Z") ∈ lw_all := lw_g (lw_at lw_m6 197 rfl) rfl
theorem q1462 : (Jvm.Cond.soleField "RoundingAuditor$Orders" "isReached") ∈ lw_all := lw_g (lw_at lw_m6 198 rfl) rfl
theorem q1463 : (Jvm.Cond.superclass "RoundingAuditor$Orders" "java/lang/Object") ∈ lw_all := lw_g (lw_at lw_m6 199 rfl) rfl
theorem q1465 : (Jvm.Cond.instanceMethod ({ cls := "RoundingAuditor$Orders", name := "go", desc := "(ID)V" } : Jvm.MethodName)) ∈ lw_all := lw_g (lw_at lw_m6 201 rfl) rfl
theorem q1466 : (Jvm.Cond.selects "RoundingAuditor$Orders" ({ cls := "RoundingAuditor$Orders", name := "go", desc := "(ID)V" } : Jvm.MethodName) ({ cls := "RoundingAuditor$Orders", name := "go", desc := "(ID)V" } : Jvm.MethodName)) ∈ lw_all := lw_g (lw_at lw_m6 202 rfl) rfl
theorem q1467 : (Jvm.Cond.code ({ cls := "RoundingAuditor$Orders", name := "go", desc := "(ID)V" } : Jvm.MethodName) prog_19_method_2_code (5 : Nat) (Option.none : Option Jvm.ClassFile.FieldType)) ∈ lw_all := lw_g (lw_at lw_m6 203 rfl) rfl
theorem q1468 : (Jvm.Cond.methodLink "RoundingAuditor$Orders" (40 : Nat) ({ cls := "java/lang/Math", name := "min", desc := "(DD)D" } : Jvm.MethodName)) ∈ lw_all := lw_g (lw_at lw_m6 204 rfl) rfl
theorem q1469 : (Jvm.Cond.methodLink "RoundingAuditor$Orders" (49 : Nat) ({ cls := "java/lang/Math", name := "max", desc := "(DD)D" } : Jvm.MethodName)) ∈ lw_all := lw_g (lw_at lw_m6 205 rfl) rfl
theorem q1470 : (Jvm.Cond.methodLink "RoundingAuditor$Orders" (55 : Nat) ({ cls := "RoundingAuditor$Ledger", name := "at", desc := "(I)D" } : Jvm.MethodName)) ∈ lw_all := lw_g (lw_at lw_m6 206 rfl) rfl
theorem q1471 : (Jvm.Cond.methodLink "RoundingAuditor$Orders" (62 : Nat) ({ cls := "RoundingAuditor$Orders", name := "go", desc := "(ID)V" } : Jvm.MethodName)) ∈ lw_all := lw_g (lw_at lw_m6 207 rfl) rfl
theorem q2080 : (Jvm.Cond.castable "RoundingAuditor$Orders" "java/lang/Object") ∈ lw_tbl := lw_at lw_m9 96 rfl
theorem in_X25 : ∀ w ∈ wsX250, w ∈ lw_all := lw_in wsX250 [1447, 1449, 1451, 1453, 1455, 1457, 1459, 1461] (by decide +kernel) (by decide +kernel)

/-! java/lang/Object -/
set_option maxRecDepth 100000
def RJ20 : String := "java/lang/Object"
abbrev cJ20_init : ByteArray := object_method_1_code
def yJ20_init : MethodName := ⟨RJ20, "<init>", "()V"⟩
theorem dJ20_init_0 : decode cJ20_init 0 = .ok (.return_, 1) := by decide +kernel
theorem q118 : (Jvm.Cond.instanceMethod ({ cls := "java/lang/Object", name := "<init>", desc := "()V" } : Jvm.MethodName)) ∈ lw_all := lw_g (lw_at lw_m1 54 rfl) rfl
theorem q119 : (Jvm.Cond.code ({ cls := "java/lang/Object", name := "<init>", desc := "()V" } : Jvm.MethodName) object_method_1_code (1 : Nat) (Option.none : Option Jvm.ClassFile.FieldType)) ∈ lw_all := lw_g (lw_at lw_m1 55 rfl) rfl
theorem q1327 : (Jvm.Cond.instanceMethod ({ cls := "java/lang/Object", name := "getClass", desc := "()Ljava/lang/Class;" } : Jvm.MethodName)) ∈ lw_all := lw_g (lw_at lw_m6 63 rfl) rfl
theorem q1328 : (Jvm.Cond.sameMethod "java/lang/Object" "java/lang/Object" "getClass" "()Ljava/lang/Class;") ∈ lw_all := lw_g (lw_at lw_m6 64 rfl) rfl
theorem q1355 : (Jvm.Cond.native ({ cls := "java/lang/Object", name := "getClass", desc := "()Ljava/lang/Class;" } : Jvm.MethodName)) ∈ lw_all := lw_g (lw_at lw_m6 91 rfl) rfl
theorem q2052 : (Jvm.Cond.initialized "java/lang/Object") ∈ lw_all := lw_g (lw_at lw_m9 68 rfl) rfl
theorem q2087 : (Jvm.Cond.declares ({ cls := "java/lang/Object", name := "getClass", desc := "()Ljava/lang/Class;" } : Jvm.MethodName)) ∈ lw_tbl := lw_at lw_m9 103 rfl

/-! RoundingAuditor$Adder -/
set_option maxRecDepth 100000
def RX26 : String := "RoundingAuditor$Adder"
abbrev cX26_less : ByteArray := prog_2_method_2_code
def yX26_less : MethodName := ⟨RX26, "less", "(DD)D"⟩
def dkwX26_less_0 : List UInt8 := [42, 39, 41, 119, 185, 0, 1, 5, 0, 175]
abbrev dktX26_less_0 : List UInt8 := dkwX26_less_0 ++ []
theorem dksX26_less_0 : cX26_less.data.toList.drop 0 = dktX26_less_0 := by decide +kernel
theorem dX26_less_0 : decode cX26_less 0 = .ok (.aload_n 0, 1) := dk_42 (dk_at dksX26_less_0 0 rfl rfl)
theorem dX26_less_1 : decode cX26_less 1 = .ok (.dload_n 1, 1) := dk_39 (dk_at dksX26_less_0 1 rfl rfl)
theorem dX26_less_2 : decode cX26_less 2 = .ok (.dload_n 3, 1) := dk_41 (dk_at dksX26_less_0 2 rfl rfl)
theorem dX26_less_3 : decode cX26_less 3 = .ok (.dneg, 1) := dk_119 (dk_at dksX26_less_0 3 rfl rfl)
theorem dX26_less_4 : decode cX26_less 4 = .ok (.invokeinterface 1 5, 5) := by decide +kernel
theorem dX26_less_9 : decode cX26_less 9 = .ok (.dreturn, 1) := dk_175 (dk_at dksX26_less_0 9 rfl rfl)
theorem q1147 : (Jvm.Cond.declares ({ cls := "RoundingAuditor$Adder", name := "add", desc := "(DD)D" } : Jvm.MethodName)) ∈ lw_tbl := lw_at lw_m5 123 rfl
theorem q1231 : (Jvm.Cond.interfaceMethod "RoundingAuditor$Adder" "RoundingAuditor$Adder" "less" "(DD)D") ∈ lw_tbl := lw_at lw_m5 207 rfl
theorem q1232 : (Jvm.Cond.declares ({ cls := "RoundingAuditor$Adder", name := "less", desc := "(DD)D" } : Jvm.MethodName)) ∈ lw_tbl := lw_at lw_m5 208 rfl
theorem q1235 : (Jvm.Cond.instanceMethod ({ cls := "RoundingAuditor$Adder", name := "less", desc := "(DD)D" } : Jvm.MethodName)) ∈ lw_all := lw_g (lw_at lw_m5 211 rfl) rfl
theorem q1236 : (Jvm.Cond.publicMethod ({ cls := "RoundingAuditor$Adder", name := "less", desc := "(DD)D" } : Jvm.MethodName)) ∈ lw_tbl := lw_at lw_m5 212 rfl
theorem q1237 : (Jvm.Cond.code ({ cls := "RoundingAuditor$Adder", name := "less", desc := "(DD)D" } : Jvm.MethodName) prog_2_method_2_code (5 : Nat) (Option.some Jvm.ClassFile.FieldType.double)) ∈ lw_all := lw_g (lw_at lw_m5 213 rfl) rfl
theorem q1238 : (Jvm.Cond.interfaceEntry "RoundingAuditor$Adder" (1 : Nat)) ∈ lw_tbl := lw_at lw_m5 214 rfl
theorem q1239 : (Jvm.Cond.methodLink "RoundingAuditor$Adder" (1 : Nat) ({ cls := "RoundingAuditor$Adder", name := "add", desc := "(DD)D" } : Jvm.MethodName)) ∈ lw_all := lw_g (lw_at lw_m5 215 rfl) rfl
theorem q1240 : (Jvm.Cond.interfaceMethod "RoundingAuditor$Adder" "RoundingAuditor$Adder" "add" "(DD)D") ∈ lw_tbl := lw_at lw_m5 216 rfl
theorem q2053 : (Jvm.Cond.initialized "RoundingAuditor$Adder") ∈ lw_all := lw_g (lw_at lw_m9 69 rfl) rfl

theorem q121 : (Jvm.Cond.arrayOver (Jvm.ClassFile.FieldType.object "RoundingAuditor$Ledger")) ∈ lw_tbl := lw_at lw_m1 57 rfl
set_option maxRecDepth 100000
theorem q132 : (Jvm.Cond.arrayClass Jvm.ClassFile.FieldType.int) ∈ lw_all := lw_g (lw_at lw_m1 68 rfl) rfl
theorem q478 : (Jvm.Cond.arrayClass Jvm.ClassFile.FieldType.byte) ∈ lw_all := lw_g (lw_at lw_m2 174 rfl) rfl
theorem q529 : (Jvm.Cond.arrayClass Jvm.ClassFile.FieldType.double) ∈ lw_all := lw_g (lw_at lw_m2 225 rfl) rfl
theorem q544 : (Jvm.Cond.arrayClass Jvm.ClassFile.FieldType.float) ∈ lw_all := lw_g (lw_at lw_m3 0 rfl) rfl
theorem q1095 : (Jvm.Cond.arrayClass Jvm.ClassFile.FieldType.boolean) ∈ lw_all := lw_g (lw_at lw_m5 71 rfl) rfl
theorem q1360 : (Jvm.Cond.arrayOver (Jvm.ClassFile.FieldType.object "java/lang/Object")) ∈ lw_tbl := lw_at lw_m6 96 rfl
theorem q1510 : (Jvm.Cond.arrayOver (Jvm.ClassFile.FieldType.object "RoundingAuditor$Exact")) ∈ lw_tbl := lw_at lw_m7 6 rfl
theorem q2048 : (Jvm.Cond.arrayClass Jvm.ClassFile.FieldType.long) ∈ lw_all := lw_g (lw_at lw_m9 64 rfl) rfl

theorem q82 : (Jvm.Cond.initialized "java/lang/Number") ∈ lw_all := lw_g (lw_at lw_m1 18 rfl) rfl
set_option maxRecDepth 100000

theorem q108 : (Jvm.Cond.initialized "java/lang/System") ∈ lw_all := lw_g (lw_at lw_m1 44 rfl) rfl
set_option maxRecDepth 100000
theorem q348 : (Jvm.Cond.static ({ cls := "java/lang/System", name := "arraycopy", desc := "(Ljava/lang/Object;ILjava/lang/Object;II)V" } : Jvm.MethodName)) ∈ lw_all := lw_g (lw_at lw_m2 44 rfl) rfl
theorem q349 : (Jvm.Cond.native ({ cls := "java/lang/System", name := "arraycopy", desc := "(Ljava/lang/Object;ILjava/lang/Object;II)V" } : Jvm.MethodName)) ∈ lw_all := lw_g (lw_at lw_m2 45 rfl) rfl

theorem q191 : (Jvm.Cond.interfaceMethod "java/util/List" "java/util/List" "size" "()I") ∈ lw_tbl := lw_at lw_m1 127 rfl
set_option maxRecDepth 100000
theorem q192 : (Jvm.Cond.declares ({ cls := "java/util/List", name := "size", desc := "()I" } : Jvm.MethodName)) ∈ lw_tbl := lw_at lw_m1 128 rfl
theorem q204 : (Jvm.Cond.interfaceMethod "java/util/List" "java/util/List" "get" "(I)Ljava/lang/Object;") ∈ lw_tbl := lw_at lw_m1 140 rfl
theorem q205 : (Jvm.Cond.declares ({ cls := "java/util/List", name := "get", desc := "(I)Ljava/lang/Object;" } : Jvm.MethodName)) ∈ lw_tbl := lw_at lw_m1 141 rfl
theorem q373 : (Jvm.Cond.interfaceMethod "java/util/List" "java/util/List" "clear" "()V") ∈ lw_tbl := lw_at lw_m2 69 rfl
theorem q374 : (Jvm.Cond.declares ({ cls := "java/util/List", name := "clear", desc := "()V" } : Jvm.MethodName)) ∈ lw_tbl := lw_at lw_m2 70 rfl
theorem q1296 : (Jvm.Cond.interfaceMethod "java/util/List" "java/util/List" "add" "(Ljava/lang/Object;)Z") ∈ lw_tbl := lw_at lw_m6 32 rfl
theorem q1297 : (Jvm.Cond.declares ({ cls := "java/util/List", name := "add", desc := "(Ljava/lang/Object;)Z" } : Jvm.MethodName)) ∈ lw_tbl := lw_at lw_m6 33 rfl

theorem q2085 : (Jvm.Cond.sameMethod "[Ljava/lang/Object;" "java/lang/Object" "getClass" "()Ljava/lang/Class;") ∈ lw_all := lw_g (lw_at lw_m9 101 rfl) rfl
set_option maxRecDepth 100000
theorem q2086 : (Jvm.Cond.selects "[Ljava/lang/Object;" ({ cls := "java/lang/Object", name := "getClass", desc := "()Ljava/lang/Class;" } : Jvm.MethodName) ({ cls := "java/lang/Object", name := "getClass", desc := "()Ljava/lang/Class;" } : Jvm.MethodName)) ∈ lw_all := lw_g (lw_at lw_m9 102 rfl) rfl
theorem q2094 : (Jvm.Cond.castable "[Ljava/lang/Object;" "java/lang/Object") ∈ lw_tbl := lw_at lw_m9 110 rfl

theorem q2088 : (Jvm.Cond.castable "[LRoundingAuditor$Ledger;" "java/lang/Object") ∈ lw_tbl := lw_at lw_m9 104 rfl
set_option maxRecDepth 100000

theorem q2089 : (Jvm.Cond.castable "[I" "java/lang/Object") ∈ lw_tbl := lw_at lw_m9 105 rfl
set_option maxRecDepth 100000

theorem q2090 : (Jvm.Cond.castable "[B" "java/lang/Object") ∈ lw_tbl := lw_at lw_m9 106 rfl
set_option maxRecDepth 100000

theorem q2091 : (Jvm.Cond.castable "[D" "java/lang/Object") ∈ lw_tbl := lw_at lw_m9 107 rfl
set_option maxRecDepth 100000

theorem q2092 : (Jvm.Cond.castable "[F" "java/lang/Object") ∈ lw_tbl := lw_at lw_m9 108 rfl
set_option maxRecDepth 100000

theorem q2093 : (Jvm.Cond.castable "[Z" "java/lang/Object") ∈ lw_tbl := lw_at lw_m9 109 rfl
set_option maxRecDepth 100000

theorem q2095 : (Jvm.Cond.castable "[LRoundingAuditor$Exact;" "java/lang/Object") ∈ lw_tbl := lw_at lw_m9 111 rfl
set_option maxRecDepth 100000

theorem q2096 : (Jvm.Cond.castable "[J" "java/lang/Object") ∈ lw_tbl := lw_at lw_m9 112 rfl
set_option maxRecDepth 100000
