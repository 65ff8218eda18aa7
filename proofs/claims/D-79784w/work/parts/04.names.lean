/-! LogGrammarLaw -/
set_option maxRecDepth 100000
def RX0 : String := "LogGrammarLaw"
abbrev cX0_setOffset : ByteArray := method_3_code
def yX0_setOffset : MethodName := ⟨RX0, "setOffset", "(LLogGrammar;II[J)I"⟩
def dkwX0_setOffset_0 : List UInt8 := [45, 3, 42, 27, 28, 182, 0, 7, 133, 80, 167, 0, 11, 58, 4, 4, 172, 58, 4, 5, 172, 3, 172]
abbrev dktX0_setOffset_0 : List UInt8 := dkwX0_setOffset_0 ++ []
theorem dksX0_setOffset_0 : cX0_setOffset.data.toList.drop 0 = dktX0_setOffset_0 := by decide +kernel
theorem dX0_setOffset_0 : decode cX0_setOffset 0 = .ok (.aload_n 3, 1) := dk_45 (dk_at dksX0_setOffset_0 0 rfl rfl)
theorem dX0_setOffset_1 : decode cX0_setOffset 1 = .ok (.iconst 0, 1) := dk_3 (dk_at dksX0_setOffset_0 1 rfl rfl)
theorem dX0_setOffset_2 : decode cX0_setOffset 2 = .ok (.aload_n 0, 1) := dk_42 (dk_at dksX0_setOffset_0 2 rfl rfl)
theorem dX0_setOffset_3 : decode cX0_setOffset 3 = .ok (.iload_n 1, 1) := dk_27 (dk_at dksX0_setOffset_0 3 rfl rfl)
theorem dX0_setOffset_4 : decode cX0_setOffset 4 = .ok (.iload_n 2, 1) := dk_28 (dk_at dksX0_setOffset_0 4 rfl rfl)
theorem dX0_setOffset_5 : decode cX0_setOffset 5 = .ok (.invokevirtual 7, 3) := dk_182 0 7 (dk_at dksX0_setOffset_0 5 rfl rfl)
theorem dX0_setOffset_8 : decode cX0_setOffset 8 = .ok (.i2l, 1) := dk_133 (dk_at dksX0_setOffset_0 8 rfl rfl)
theorem dX0_setOffset_9 : decode cX0_setOffset 9 = .ok (.lastore, 1) := dk_80 (dk_at dksX0_setOffset_0 9 rfl rfl)
theorem dX0_setOffset_10 : decode cX0_setOffset 10 = .ok (.goto 11, 3) := dk_167 0 11 (dk_at dksX0_setOffset_0 10 rfl rfl)
theorem dX0_setOffset_13 : decode cX0_setOffset 13 = .ok (.astore 4, 2) := dk_58 4 (dk_at dksX0_setOffset_0 13 rfl rfl)
theorem dX0_setOffset_15 : decode cX0_setOffset 15 = .ok (.iconst 1, 1) := dk_4 (dk_at dksX0_setOffset_0 15 rfl rfl)
theorem dX0_setOffset_16 : decode cX0_setOffset 16 = .ok (.ireturn, 1) := dk_172 (dk_at dksX0_setOffset_0 16 rfl rfl)
theorem dX0_setOffset_17 : decode cX0_setOffset 17 = .ok (.astore 4, 2) := dk_58 4 (dk_at dksX0_setOffset_0 17 rfl rfl)
theorem dX0_setOffset_19 : decode cX0_setOffset 19 = .ok (.iconst 2, 1) := dk_5 (dk_at dksX0_setOffset_0 19 rfl rfl)
theorem dX0_setOffset_20 : decode cX0_setOffset 20 = .ok (.ireturn, 1) := dk_172 (dk_at dksX0_setOffset_0 20 rfl rfl)
theorem dX0_setOffset_21 : decode cX0_setOffset 21 = .ok (.iconst 0, 1) := dk_3 (dk_at dksX0_setOffset_0 21 rfl rfl)
theorem dX0_setOffset_22 : decode cX0_setOffset 22 = .ok (.ireturn, 1) := dk_172 (dk_at dksX0_setOffset_0 22 rfl rfl)
abbrev cX0_setPatience : ByteArray := method_4_code
def yX0_setPatience : MethodName := ⟨RX0, "setPatience", "(LLogGrammar;I[J)I"⟩
def dkwX0_setPatience_0 : List UInt8 := [44, 3, 42, 27, 182, 0, 17, 133, 80, 167, 0, 6, 78, 4, 172, 3, 172]
abbrev dktX0_setPatience_0 : List UInt8 := dkwX0_setPatience_0 ++ []
theorem dksX0_setPatience_0 : cX0_setPatience.data.toList.drop 0 = dktX0_setPatience_0 := by decide +kernel
theorem dX0_setPatience_0 : decode cX0_setPatience 0 = .ok (.aload_n 2, 1) := dk_44 (dk_at dksX0_setPatience_0 0 rfl rfl)
theorem dX0_setPatience_1 : decode cX0_setPatience 1 = .ok (.iconst 0, 1) := dk_3 (dk_at dksX0_setPatience_0 1 rfl rfl)
theorem dX0_setPatience_2 : decode cX0_setPatience 2 = .ok (.aload_n 0, 1) := dk_42 (dk_at dksX0_setPatience_0 2 rfl rfl)
theorem dX0_setPatience_3 : decode cX0_setPatience 3 = .ok (.iload_n 1, 1) := dk_27 (dk_at dksX0_setPatience_0 3 rfl rfl)
theorem dX0_setPatience_4 : decode cX0_setPatience 4 = .ok (.invokevirtual 17, 3) := dk_182 0 17 (dk_at dksX0_setPatience_0 4 rfl rfl)
theorem dX0_setPatience_7 : decode cX0_setPatience 7 = .ok (.i2l, 1) := dk_133 (dk_at dksX0_setPatience_0 7 rfl rfl)
theorem dX0_setPatience_8 : decode cX0_setPatience 8 = .ok (.lastore, 1) := dk_80 (dk_at dksX0_setPatience_0 8 rfl rfl)
theorem dX0_setPatience_9 : decode cX0_setPatience 9 = .ok (.goto 6, 3) := dk_167 0 6 (dk_at dksX0_setPatience_0 9 rfl rfl)
theorem dX0_setPatience_12 : decode cX0_setPatience 12 = .ok (.astore_n 3, 1) := dk_78 (dk_at dksX0_setPatience_0 12 rfl rfl)
theorem dX0_setPatience_13 : decode cX0_setPatience 13 = .ok (.iconst 1, 1) := dk_4 (dk_at dksX0_setPatience_0 13 rfl rfl)
theorem dX0_setPatience_14 : decode cX0_setPatience 14 = .ok (.ireturn, 1) := dk_172 (dk_at dksX0_setPatience_0 14 rfl rfl)
theorem dX0_setPatience_15 : decode cX0_setPatience 15 = .ok (.iconst 0, 1) := dk_3 (dk_at dksX0_setPatience_0 15 rfl rfl)
theorem dX0_setPatience_16 : decode cX0_setPatience 16 = .ok (.ireturn, 1) := dk_172 (dk_at dksX0_setPatience_0 16 rfl rfl)
abbrev cX0_event : ByteArray := method_5_code
def yX0_event : MethodName := ⟨RX0, "event", "(LLogGrammar;IIIII[J)I"⟩
def dkwX0_event_1 : List UInt8 := [58, 7, 5, 172, 58, 7, 6, 172, 3, 172]
abbrev dktX0_event_1 : List UInt8 := dkwX0_event_1 ++ []
def dkwX0_event_0 : List UInt8 := [25, 6, 3, 42, 27, 28, 29, 21, 4, 21, 5, 182, 0, 21, 133, 80, 167, 0, 15, 58, 7, 4, 172]
abbrev dktX0_event_0 : List UInt8 := dkwX0_event_0 ++ dktX0_event_1
theorem dksX0_event_0 : cX0_event.data.toList.drop 0 = dktX0_event_0 := by decide +kernel
theorem dksX0_event_1 : cX0_event.data.toList.drop 23 = dktX0_event_1 := dk_seg dksX0_event_0 23 rfl rfl
theorem dX0_event_0 : decode cX0_event 0 = .ok (.aload 6, 2) := dk_25 6 (dk_at dksX0_event_0 0 rfl rfl)
theorem dX0_event_2 : decode cX0_event 2 = .ok (.iconst 0, 1) := dk_3 (dk_at dksX0_event_0 2 rfl rfl)
theorem dX0_event_3 : decode cX0_event 3 = .ok (.aload_n 0, 1) := dk_42 (dk_at dksX0_event_0 3 rfl rfl)
theorem dX0_event_4 : decode cX0_event 4 = .ok (.iload_n 1, 1) := dk_27 (dk_at dksX0_event_0 4 rfl rfl)
theorem dX0_event_5 : decode cX0_event 5 = .ok (.iload_n 2, 1) := dk_28 (dk_at dksX0_event_0 5 rfl rfl)
theorem dX0_event_6 : decode cX0_event 6 = .ok (.iload_n 3, 1) := dk_29 (dk_at dksX0_event_0 6 rfl rfl)
theorem dX0_event_7 : decode cX0_event 7 = .ok (.iload 4, 2) := dk_21 4 (dk_at dksX0_event_0 7 rfl rfl)
theorem dX0_event_9 : decode cX0_event 9 = .ok (.iload 5, 2) := dk_21 5 (dk_at dksX0_event_0 9 rfl rfl)
theorem dX0_event_11 : decode cX0_event 11 = .ok (.invokevirtual 21, 3) := dk_182 0 21 (dk_at dksX0_event_0 11 rfl rfl)
theorem dX0_event_14 : decode cX0_event 14 = .ok (.i2l, 1) := dk_133 (dk_at dksX0_event_0 14 rfl rfl)
theorem dX0_event_15 : decode cX0_event 15 = .ok (.lastore, 1) := dk_80 (dk_at dksX0_event_0 15 rfl rfl)
theorem dX0_event_16 : decode cX0_event 16 = .ok (.goto 15, 3) := dk_167 0 15 (dk_at dksX0_event_0 16 rfl rfl)
theorem dX0_event_19 : decode cX0_event 19 = .ok (.astore 7, 2) := dk_58 7 (dk_at dksX0_event_0 19 rfl rfl)
theorem dX0_event_21 : decode cX0_event 21 = .ok (.iconst 1, 1) := dk_4 (dk_at dksX0_event_0 21 rfl rfl)
theorem dX0_event_22 : decode cX0_event 22 = .ok (.ireturn, 1) := dk_172 (dk_at dksX0_event_0 22 rfl rfl)
theorem dX0_event_23 : decode cX0_event 23 = .ok (.astore 7, 2) := dk_58 7 (dk_at dksX0_event_1 0 rfl rfl)
theorem dX0_event_25 : decode cX0_event 25 = .ok (.iconst 2, 1) := dk_5 (dk_at dksX0_event_1 2 rfl rfl)
theorem dX0_event_26 : decode cX0_event 26 = .ok (.ireturn, 1) := dk_172 (dk_at dksX0_event_1 3 rfl rfl)
theorem dX0_event_27 : decode cX0_event 27 = .ok (.astore 7, 2) := dk_58 7 (dk_at dksX0_event_1 4 rfl rfl)
theorem dX0_event_29 : decode cX0_event 29 = .ok (.iconst 3, 1) := dk_6 (dk_at dksX0_event_1 6 rfl rfl)
theorem dX0_event_30 : decode cX0_event 30 = .ok (.ireturn, 1) := dk_172 (dk_at dksX0_event_1 7 rfl rfl)
theorem dX0_event_31 : decode cX0_event 31 = .ok (.iconst 0, 1) := dk_3 (dk_at dksX0_event_1 8 rfl rfl)
theorem dX0_event_32 : decode cX0_event 32 = .ok (.ireturn, 1) := dk_172 (dk_at dksX0_event_1 9 rfl rfl)
abbrev cX0_offer : ByteArray := method_6_code
def yX0_offer : MethodName := ⟨RX0, "offer", "(LLogGrammar;IIIII[J)I"⟩
def dkwX0_offer_1 : List UInt8 := [58, 7, 5, 172, 58, 7, 6, 172, 3, 172]
abbrev dktX0_offer_1 : List UInt8 := dkwX0_offer_1 ++ []
def dkwX0_offer_0 : List UInt8 := [25, 6, 3, 42, 27, 28, 29, 21, 4, 21, 5, 182, 0, 27, 133, 80, 167, 0, 15, 58, 7, 4, 172]
abbrev dktX0_offer_0 : List UInt8 := dkwX0_offer_0 ++ dktX0_offer_1
theorem dksX0_offer_0 : cX0_offer.data.toList.drop 0 = dktX0_offer_0 := by decide +kernel
theorem dksX0_offer_1 : cX0_offer.data.toList.drop 23 = dktX0_offer_1 := dk_seg dksX0_offer_0 23 rfl rfl
theorem dX0_offer_0 : decode cX0_offer 0 = .ok (.aload 6, 2) := dk_25 6 (dk_at dksX0_offer_0 0 rfl rfl)
theorem dX0_offer_2 : decode cX0_offer 2 = .ok (.iconst 0, 1) := dk_3 (dk_at dksX0_offer_0 2 rfl rfl)
theorem dX0_offer_3 : decode cX0_offer 3 = .ok (.aload_n 0, 1) := dk_42 (dk_at dksX0_offer_0 3 rfl rfl)
theorem dX0_offer_4 : decode cX0_offer 4 = .ok (.iload_n 1, 1) := dk_27 (dk_at dksX0_offer_0 4 rfl rfl)
theorem dX0_offer_5 : decode cX0_offer 5 = .ok (.iload_n 2, 1) := dk_28 (dk_at dksX0_offer_0 5 rfl rfl)
theorem dX0_offer_6 : decode cX0_offer 6 = .ok (.iload_n 3, 1) := dk_29 (dk_at dksX0_offer_0 6 rfl rfl)
theorem dX0_offer_7 : decode cX0_offer 7 = .ok (.iload 4, 2) := dk_21 4 (dk_at dksX0_offer_0 7 rfl rfl)
theorem dX0_offer_9 : decode cX0_offer 9 = .ok (.iload 5, 2) := dk_21 5 (dk_at dksX0_offer_0 9 rfl rfl)
theorem dX0_offer_11 : decode cX0_offer 11 = .ok (.invokevirtual 27, 3) := dk_182 0 27 (dk_at dksX0_offer_0 11 rfl rfl)
theorem dX0_offer_14 : decode cX0_offer 14 = .ok (.i2l, 1) := dk_133 (dk_at dksX0_offer_0 14 rfl rfl)
theorem dX0_offer_15 : decode cX0_offer 15 = .ok (.lastore, 1) := dk_80 (dk_at dksX0_offer_0 15 rfl rfl)
theorem dX0_offer_16 : decode cX0_offer 16 = .ok (.goto 15, 3) := dk_167 0 15 (dk_at dksX0_offer_0 16 rfl rfl)
theorem dX0_offer_19 : decode cX0_offer 19 = .ok (.astore 7, 2) := dk_58 7 (dk_at dksX0_offer_0 19 rfl rfl)
theorem dX0_offer_21 : decode cX0_offer 21 = .ok (.iconst 1, 1) := dk_4 (dk_at dksX0_offer_0 21 rfl rfl)
theorem dX0_offer_22 : decode cX0_offer 22 = .ok (.ireturn, 1) := dk_172 (dk_at dksX0_offer_0 22 rfl rfl)
theorem dX0_offer_23 : decode cX0_offer 23 = .ok (.astore 7, 2) := dk_58 7 (dk_at dksX0_offer_1 0 rfl rfl)
theorem dX0_offer_25 : decode cX0_offer 25 = .ok (.iconst 2, 1) := dk_5 (dk_at dksX0_offer_1 2 rfl rfl)
theorem dX0_offer_26 : decode cX0_offer 26 = .ok (.ireturn, 1) := dk_172 (dk_at dksX0_offer_1 3 rfl rfl)
theorem dX0_offer_27 : decode cX0_offer 27 = .ok (.astore 7, 2) := dk_58 7 (dk_at dksX0_offer_1 4 rfl rfl)
theorem dX0_offer_29 : decode cX0_offer 29 = .ok (.iconst 3, 1) := dk_6 (dk_at dksX0_offer_1 6 rfl rfl)
theorem dX0_offer_30 : decode cX0_offer 30 = .ok (.ireturn, 1) := dk_172 (dk_at dksX0_offer_1 7 rfl rfl)
theorem dX0_offer_31 : decode cX0_offer 31 = .ok (.iconst 0, 1) := dk_3 (dk_at dksX0_offer_1 8 rfl rfl)
theorem dX0_offer_32 : decode cX0_offer 32 = .ok (.ireturn, 1) := dk_172 (dk_at dksX0_offer_1 9 rfl rfl)
abbrev cX0_close : ByteArray := method_7_code
def yX0_close : MethodName := ⟨RX0, "close", "(LLogGrammar;[J)I"⟩
def dkwX0_close_0 : List UInt8 := [43, 3, 42, 182, 0, 30, 133, 80, 167, 0, 6, 77, 4, 172, 3, 172]
abbrev dktX0_close_0 : List UInt8 := dkwX0_close_0 ++ []
theorem dksX0_close_0 : cX0_close.data.toList.drop 0 = dktX0_close_0 := by decide +kernel
theorem dX0_close_0 : decode cX0_close 0 = .ok (.aload_n 1, 1) := dk_43 (dk_at dksX0_close_0 0 rfl rfl)
theorem dX0_close_1 : decode cX0_close 1 = .ok (.iconst 0, 1) := dk_3 (dk_at dksX0_close_0 1 rfl rfl)
theorem dX0_close_2 : decode cX0_close 2 = .ok (.aload_n 0, 1) := dk_42 (dk_at dksX0_close_0 2 rfl rfl)
theorem dX0_close_3 : decode cX0_close 3 = .ok (.invokevirtual 30, 3) := dk_182 0 30 (dk_at dksX0_close_0 3 rfl rfl)
theorem dX0_close_6 : decode cX0_close 6 = .ok (.i2l, 1) := dk_133 (dk_at dksX0_close_0 6 rfl rfl)
theorem dX0_close_7 : decode cX0_close 7 = .ok (.lastore, 1) := dk_80 (dk_at dksX0_close_0 7 rfl rfl)
theorem dX0_close_8 : decode cX0_close 8 = .ok (.goto 6, 3) := dk_167 0 6 (dk_at dksX0_close_0 8 rfl rfl)
theorem dX0_close_11 : decode cX0_close 11 = .ok (.astore_n 2, 1) := dk_77 (dk_at dksX0_close_0 11 rfl rfl)
theorem dX0_close_12 : decode cX0_close 12 = .ok (.iconst 1, 1) := dk_4 (dk_at dksX0_close_0 12 rfl rfl)
theorem dX0_close_13 : decode cX0_close 13 = .ok (.ireturn, 1) := dk_172 (dk_at dksX0_close_0 13 rfl rfl)
theorem dX0_close_14 : decode cX0_close 14 = .ok (.iconst 0, 1) := dk_3 (dk_at dksX0_close_0 14 rfl rfl)
theorem dX0_close_15 : decode cX0_close 15 = .ok (.ireturn, 1) := dk_172 (dk_at dksX0_close_0 15 rfl rfl)
abbrev cX0_kindIs : ByteArray := method_8_code
def yX0_kindIs : MethodName := ⟨RX0, "kindIs", "(LLogGrammar;I[J)I"⟩
def dkwX0_kindIs_0 : List UInt8 := [44, 3, 42, 27, 182, 0, 34, 133, 80, 167, 0, 9, 78, 4, 172, 78, 5, 172, 3, 172]
abbrev dktX0_kindIs_0 : List UInt8 := dkwX0_kindIs_0 ++ []
theorem dksX0_kindIs_0 : cX0_kindIs.data.toList.drop 0 = dktX0_kindIs_0 := by decide +kernel
theorem dX0_kindIs_0 : decode cX0_kindIs 0 = .ok (.aload_n 2, 1) := dk_44 (dk_at dksX0_kindIs_0 0 rfl rfl)
theorem dX0_kindIs_1 : decode cX0_kindIs 1 = .ok (.iconst 0, 1) := dk_3 (dk_at dksX0_kindIs_0 1 rfl rfl)
theorem dX0_kindIs_2 : decode cX0_kindIs 2 = .ok (.aload_n 0, 1) := dk_42 (dk_at dksX0_kindIs_0 2 rfl rfl)
theorem dX0_kindIs_3 : decode cX0_kindIs 3 = .ok (.iload_n 1, 1) := dk_27 (dk_at dksX0_kindIs_0 3 rfl rfl)
theorem dX0_kindIs_4 : decode cX0_kindIs 4 = .ok (.invokevirtual 34, 3) := dk_182 0 34 (dk_at dksX0_kindIs_0 4 rfl rfl)
theorem dX0_kindIs_7 : decode cX0_kindIs 7 = .ok (.i2l, 1) := dk_133 (dk_at dksX0_kindIs_0 7 rfl rfl)
theorem dX0_kindIs_8 : decode cX0_kindIs 8 = .ok (.lastore, 1) := dk_80 (dk_at dksX0_kindIs_0 8 rfl rfl)
theorem dX0_kindIs_9 : decode cX0_kindIs 9 = .ok (.goto 9, 3) := dk_167 0 9 (dk_at dksX0_kindIs_0 9 rfl rfl)
theorem dX0_kindIs_12 : decode cX0_kindIs 12 = .ok (.astore_n 3, 1) := dk_78 (dk_at dksX0_kindIs_0 12 rfl rfl)
theorem dX0_kindIs_13 : decode cX0_kindIs 13 = .ok (.iconst 1, 1) := dk_4 (dk_at dksX0_kindIs_0 13 rfl rfl)
theorem dX0_kindIs_14 : decode cX0_kindIs 14 = .ok (.ireturn, 1) := dk_172 (dk_at dksX0_kindIs_0 14 rfl rfl)
theorem dX0_kindIs_15 : decode cX0_kindIs 15 = .ok (.astore_n 3, 1) := dk_78 (dk_at dksX0_kindIs_0 15 rfl rfl)
theorem dX0_kindIs_16 : decode cX0_kindIs 16 = .ok (.iconst 2, 1) := dk_5 (dk_at dksX0_kindIs_0 16 rfl rfl)
theorem dX0_kindIs_17 : decode cX0_kindIs 17 = .ok (.ireturn, 1) := dk_172 (dk_at dksX0_kindIs_0 17 rfl rfl)
theorem dX0_kindIs_18 : decode cX0_kindIs 18 = .ok (.iconst 0, 1) := dk_3 (dk_at dksX0_kindIs_0 18 rfl rfl)
theorem dX0_kindIs_19 : decode cX0_kindIs 19 = .ok (.ireturn, 1) := dk_172 (dk_at dksX0_kindIs_0 19 rfl rfl)
abbrev cX0_valueIs : ByteArray := method_9_code
def yX0_valueIs : MethodName := ⟨RX0, "valueIs", "(LLogGrammar;II[J)I"⟩
def dkwX0_valueIs_0 : List UInt8 := [45, 3, 42, 27, 28, 182, 0, 37, 133, 80, 167, 0, 11, 58, 4, 4, 172, 58, 4, 5, 172, 3, 172]
abbrev dktX0_valueIs_0 : List UInt8 := dkwX0_valueIs_0 ++ []
theorem dksX0_valueIs_0 : cX0_valueIs.data.toList.drop 0 = dktX0_valueIs_0 := by decide +kernel
theorem dX0_valueIs_0 : decode cX0_valueIs 0 = .ok (.aload_n 3, 1) := dk_45 (dk_at dksX0_valueIs_0 0 rfl rfl)
theorem dX0_valueIs_1 : decode cX0_valueIs 1 = .ok (.iconst 0, 1) := dk_3 (dk_at dksX0_valueIs_0 1 rfl rfl)
theorem dX0_valueIs_2 : decode cX0_valueIs 2 = .ok (.aload_n 0, 1) := dk_42 (dk_at dksX0_valueIs_0 2 rfl rfl)
theorem dX0_valueIs_3 : decode cX0_valueIs 3 = .ok (.iload_n 1, 1) := dk_27 (dk_at dksX0_valueIs_0 3 rfl rfl)
theorem dX0_valueIs_4 : decode cX0_valueIs 4 = .ok (.iload_n 2, 1) := dk_28 (dk_at dksX0_valueIs_0 4 rfl rfl)
theorem dX0_valueIs_5 : decode cX0_valueIs 5 = .ok (.invokevirtual 37, 3) := dk_182 0 37 (dk_at dksX0_valueIs_0 5 rfl rfl)
theorem dX0_valueIs_8 : decode cX0_valueIs 8 = .ok (.i2l, 1) := dk_133 (dk_at dksX0_valueIs_0 8 rfl rfl)
theorem dX0_valueIs_9 : decode cX0_valueIs 9 = .ok (.lastore, 1) := dk_80 (dk_at dksX0_valueIs_0 9 rfl rfl)
theorem dX0_valueIs_10 : decode cX0_valueIs 10 = .ok (.goto 11, 3) := dk_167 0 11 (dk_at dksX0_valueIs_0 10 rfl rfl)
theorem dX0_valueIs_13 : decode cX0_valueIs 13 = .ok (.astore 4, 2) := dk_58 4 (dk_at dksX0_valueIs_0 13 rfl rfl)
theorem dX0_valueIs_15 : decode cX0_valueIs 15 = .ok (.iconst 1, 1) := dk_4 (dk_at dksX0_valueIs_0 15 rfl rfl)
theorem dX0_valueIs_16 : decode cX0_valueIs 16 = .ok (.ireturn, 1) := dk_172 (dk_at dksX0_valueIs_0 16 rfl rfl)
theorem dX0_valueIs_17 : decode cX0_valueIs 17 = .ok (.astore 4, 2) := dk_58 4 (dk_at dksX0_valueIs_0 17 rfl rfl)
theorem dX0_valueIs_19 : decode cX0_valueIs 19 = .ok (.iconst 2, 1) := dk_5 (dk_at dksX0_valueIs_0 19 rfl rfl)
theorem dX0_valueIs_20 : decode cX0_valueIs 20 = .ok (.ireturn, 1) := dk_172 (dk_at dksX0_valueIs_0 20 rfl rfl)
theorem dX0_valueIs_21 : decode cX0_valueIs 21 = .ok (.iconst 0, 1) := dk_3 (dk_at dksX0_valueIs_0 21 rfl rfl)
theorem dX0_valueIs_22 : decode cX0_valueIs 22 = .ok (.ireturn, 1) := dk_172 (dk_at dksX0_valueIs_0 22 rfl rfl)
abbrev cX0_not : ByteArray := method_10_code
def yX0_not : MethodName := ⟨RX0, "not", "(LLogGrammar;[J)I"⟩
def dkwX0_not_0 : List UInt8 := [43, 3, 42, 182, 0, 40, 133, 80, 167, 0, 6, 77, 4, 172, 3, 172]
abbrev dktX0_not_0 : List UInt8 := dkwX0_not_0 ++ []
theorem dksX0_not_0 : cX0_not.data.toList.drop 0 = dktX0_not_0 := by decide +kernel
theorem dX0_not_0 : decode cX0_not 0 = .ok (.aload_n 1, 1) := dk_43 (dk_at dksX0_not_0 0 rfl rfl)
theorem dX0_not_1 : decode cX0_not 1 = .ok (.iconst 0, 1) := dk_3 (dk_at dksX0_not_0 1 rfl rfl)
theorem dX0_not_2 : decode cX0_not 2 = .ok (.aload_n 0, 1) := dk_42 (dk_at dksX0_not_0 2 rfl rfl)
theorem dX0_not_3 : decode cX0_not 3 = .ok (.invokevirtual 40, 3) := dk_182 0 40 (dk_at dksX0_not_0 3 rfl rfl)
theorem dX0_not_6 : decode cX0_not 6 = .ok (.i2l, 1) := dk_133 (dk_at dksX0_not_0 6 rfl rfl)
theorem dX0_not_7 : decode cX0_not 7 = .ok (.lastore, 1) := dk_80 (dk_at dksX0_not_0 7 rfl rfl)
theorem dX0_not_8 : decode cX0_not 8 = .ok (.goto 6, 3) := dk_167 0 6 (dk_at dksX0_not_0 8 rfl rfl)
theorem dX0_not_11 : decode cX0_not 11 = .ok (.astore_n 2, 1) := dk_77 (dk_at dksX0_not_0 11 rfl rfl)
theorem dX0_not_12 : decode cX0_not 12 = .ok (.iconst 1, 1) := dk_4 (dk_at dksX0_not_0 12 rfl rfl)
theorem dX0_not_13 : decode cX0_not 13 = .ok (.ireturn, 1) := dk_172 (dk_at dksX0_not_0 13 rfl rfl)
theorem dX0_not_14 : decode cX0_not 14 = .ok (.iconst 0, 1) := dk_3 (dk_at dksX0_not_0 14 rfl rfl)
theorem dX0_not_15 : decode cX0_not 15 = .ok (.ireturn, 1) := dk_172 (dk_at dksX0_not_0 15 rfl rfl)
abbrev cX0_both : ByteArray := method_11_code
def yX0_both : MethodName := ⟨RX0, "both", "(LLogGrammar;[J)I"⟩
def dkwX0_both_0 : List UInt8 := [43, 3, 42, 182, 0, 43, 133, 80, 167, 0, 6, 77, 4, 172, 3, 172]
abbrev dktX0_both_0 : List UInt8 := dkwX0_both_0 ++ []
theorem dksX0_both_0 : cX0_both.data.toList.drop 0 = dktX0_both_0 := by decide +kernel
theorem dX0_both_0 : decode cX0_both 0 = .ok (.aload_n 1, 1) := dk_43 (dk_at dksX0_both_0 0 rfl rfl)
theorem dX0_both_1 : decode cX0_both 1 = .ok (.iconst 0, 1) := dk_3 (dk_at dksX0_both_0 1 rfl rfl)
theorem dX0_both_2 : decode cX0_both 2 = .ok (.aload_n 0, 1) := dk_42 (dk_at dksX0_both_0 2 rfl rfl)
theorem dX0_both_3 : decode cX0_both 3 = .ok (.invokevirtual 43, 3) := dk_182 0 43 (dk_at dksX0_both_0 3 rfl rfl)
theorem dX0_both_6 : decode cX0_both 6 = .ok (.i2l, 1) := dk_133 (dk_at dksX0_both_0 6 rfl rfl)
theorem dX0_both_7 : decode cX0_both 7 = .ok (.lastore, 1) := dk_80 (dk_at dksX0_both_0 7 rfl rfl)
theorem dX0_both_8 : decode cX0_both 8 = .ok (.goto 6, 3) := dk_167 0 6 (dk_at dksX0_both_0 8 rfl rfl)
theorem dX0_both_11 : decode cX0_both 11 = .ok (.astore_n 2, 1) := dk_77 (dk_at dksX0_both_0 11 rfl rfl)
theorem dX0_both_12 : decode cX0_both 12 = .ok (.iconst 1, 1) := dk_4 (dk_at dksX0_both_0 12 rfl rfl)
theorem dX0_both_13 : decode cX0_both 13 = .ok (.ireturn, 1) := dk_172 (dk_at dksX0_both_0 13 rfl rfl)
theorem dX0_both_14 : decode cX0_both 14 = .ok (.iconst 0, 1) := dk_3 (dk_at dksX0_both_0 14 rfl rfl)
theorem dX0_both_15 : decode cX0_both 15 = .ok (.ireturn, 1) := dk_172 (dk_at dksX0_both_0 15 rfl rfl)
abbrev cX0_either : ByteArray := method_12_code
def yX0_either : MethodName := ⟨RX0, "either", "(LLogGrammar;[J)I"⟩
def dkwX0_either_0 : List UInt8 := [43, 3, 42, 182, 0, 46, 133, 80, 167, 0, 6, 77, 4, 172, 3, 172]
abbrev dktX0_either_0 : List UInt8 := dkwX0_either_0 ++ []
theorem dksX0_either_0 : cX0_either.data.toList.drop 0 = dktX0_either_0 := by decide +kernel
theorem dX0_either_0 : decode cX0_either 0 = .ok (.aload_n 1, 1) := dk_43 (dk_at dksX0_either_0 0 rfl rfl)
theorem dX0_either_1 : decode cX0_either 1 = .ok (.iconst 0, 1) := dk_3 (dk_at dksX0_either_0 1 rfl rfl)
theorem dX0_either_2 : decode cX0_either 2 = .ok (.aload_n 0, 1) := dk_42 (dk_at dksX0_either_0 2 rfl rfl)
theorem dX0_either_3 : decode cX0_either 3 = .ok (.invokevirtual 46, 3) := dk_182 0 46 (dk_at dksX0_either_0 3 rfl rfl)
theorem dX0_either_6 : decode cX0_either 6 = .ok (.i2l, 1) := dk_133 (dk_at dksX0_either_0 6 rfl rfl)
theorem dX0_either_7 : decode cX0_either 7 = .ok (.lastore, 1) := dk_80 (dk_at dksX0_either_0 7 rfl rfl)
theorem dX0_either_8 : decode cX0_either 8 = .ok (.goto 6, 3) := dk_167 0 6 (dk_at dksX0_either_0 8 rfl rfl)
theorem dX0_either_11 : decode cX0_either 11 = .ok (.astore_n 2, 1) := dk_77 (dk_at dksX0_either_0 11 rfl rfl)
theorem dX0_either_12 : decode cX0_either 12 = .ok (.iconst 1, 1) := dk_4 (dk_at dksX0_either_0 12 rfl rfl)
theorem dX0_either_13 : decode cX0_either 13 = .ok (.ireturn, 1) := dk_172 (dk_at dksX0_either_0 13 rfl rfl)
theorem dX0_either_14 : decode cX0_either 14 = .ok (.iconst 0, 1) := dk_3 (dk_at dksX0_either_0 14 rfl rfl)
theorem dX0_either_15 : decode cX0_either 15 = .ok (.ireturn, 1) := dk_172 (dk_at dksX0_either_0 15 rfl rfl)
abbrev cX0_before : ByteArray := method_13_code
def yX0_before : MethodName := ⟨RX0, "before", "(LLogGrammar;[J)I"⟩
def dkwX0_before_0 : List UInt8 := [43, 3, 42, 182, 0, 49, 133, 80, 167, 0, 6, 77, 4, 172, 3, 172]
abbrev dktX0_before_0 : List UInt8 := dkwX0_before_0 ++ []
theorem dksX0_before_0 : cX0_before.data.toList.drop 0 = dktX0_before_0 := by decide +kernel
theorem dX0_before_0 : decode cX0_before 0 = .ok (.aload_n 1, 1) := dk_43 (dk_at dksX0_before_0 0 rfl rfl)
theorem dX0_before_1 : decode cX0_before 1 = .ok (.iconst 0, 1) := dk_3 (dk_at dksX0_before_0 1 rfl rfl)
theorem dX0_before_2 : decode cX0_before 2 = .ok (.aload_n 0, 1) := dk_42 (dk_at dksX0_before_0 2 rfl rfl)
theorem dX0_before_3 : decode cX0_before 3 = .ok (.invokevirtual 49, 3) := dk_182 0 49 (dk_at dksX0_before_0 3 rfl rfl)
theorem dX0_before_6 : decode cX0_before 6 = .ok (.i2l, 1) := dk_133 (dk_at dksX0_before_0 6 rfl rfl)
theorem dX0_before_7 : decode cX0_before 7 = .ok (.lastore, 1) := dk_80 (dk_at dksX0_before_0 7 rfl rfl)
theorem dX0_before_8 : decode cX0_before 8 = .ok (.goto 6, 3) := dk_167 0 6 (dk_at dksX0_before_0 8 rfl rfl)
theorem dX0_before_11 : decode cX0_before 11 = .ok (.astore_n 2, 1) := dk_77 (dk_at dksX0_before_0 11 rfl rfl)
theorem dX0_before_12 : decode cX0_before 12 = .ok (.iconst 1, 1) := dk_4 (dk_at dksX0_before_0 12 rfl rfl)
theorem dX0_before_13 : decode cX0_before 13 = .ok (.ireturn, 1) := dk_172 (dk_at dksX0_before_0 13 rfl rfl)
theorem dX0_before_14 : decode cX0_before 14 = .ok (.iconst 0, 1) := dk_3 (dk_at dksX0_before_0 14 rfl rfl)
theorem dX0_before_15 : decode cX0_before 15 = .ok (.ireturn, 1) := dk_172 (dk_at dksX0_before_0 15 rfl rfl)
abbrev cX0_since : ByteArray := method_14_code
def yX0_since : MethodName := ⟨RX0, "since", "(LLogGrammar;I[J)I"⟩
def dkwX0_since_0 : List UInt8 := [44, 3, 42, 27, 182, 0, 52, 133, 80, 167, 0, 9, 78, 4, 172, 78, 5, 172, 3, 172]
abbrev dktX0_since_0 : List UInt8 := dkwX0_since_0 ++ []
theorem dksX0_since_0 : cX0_since.data.toList.drop 0 = dktX0_since_0 := by decide +kernel
theorem dX0_since_0 : decode cX0_since 0 = .ok (.aload_n 2, 1) := dk_44 (dk_at dksX0_since_0 0 rfl rfl)
theorem dX0_since_1 : decode cX0_since 1 = .ok (.iconst 0, 1) := dk_3 (dk_at dksX0_since_0 1 rfl rfl)
theorem dX0_since_2 : decode cX0_since 2 = .ok (.aload_n 0, 1) := dk_42 (dk_at dksX0_since_0 2 rfl rfl)
theorem dX0_since_3 : decode cX0_since 3 = .ok (.iload_n 1, 1) := dk_27 (dk_at dksX0_since_0 3 rfl rfl)
theorem dX0_since_4 : decode cX0_since 4 = .ok (.invokevirtual 52, 3) := dk_182 0 52 (dk_at dksX0_since_0 4 rfl rfl)
theorem dX0_since_7 : decode cX0_since 7 = .ok (.i2l, 1) := dk_133 (dk_at dksX0_since_0 7 rfl rfl)
theorem dX0_since_8 : decode cX0_since 8 = .ok (.lastore, 1) := dk_80 (dk_at dksX0_since_0 8 rfl rfl)
theorem dX0_since_9 : decode cX0_since 9 = .ok (.goto 9, 3) := dk_167 0 9 (dk_at dksX0_since_0 9 rfl rfl)
theorem dX0_since_12 : decode cX0_since 12 = .ok (.astore_n 3, 1) := dk_78 (dk_at dksX0_since_0 12 rfl rfl)
theorem dX0_since_13 : decode cX0_since 13 = .ok (.iconst 1, 1) := dk_4 (dk_at dksX0_since_0 13 rfl rfl)
theorem dX0_since_14 : decode cX0_since 14 = .ok (.ireturn, 1) := dk_172 (dk_at dksX0_since_0 14 rfl rfl)
theorem dX0_since_15 : decode cX0_since 15 = .ok (.astore_n 3, 1) := dk_78 (dk_at dksX0_since_0 15 rfl rfl)
theorem dX0_since_16 : decode cX0_since 16 = .ok (.iconst 2, 1) := dk_5 (dk_at dksX0_since_0 16 rfl rfl)
theorem dX0_since_17 : decode cX0_since 17 = .ok (.ireturn, 1) := dk_172 (dk_at dksX0_since_0 17 rfl rfl)
theorem dX0_since_18 : decode cX0_since 18 = .ok (.iconst 0, 1) := dk_3 (dk_at dksX0_since_0 18 rfl rfl)
theorem dX0_since_19 : decode cX0_since 19 = .ok (.ireturn, 1) := dk_172 (dk_at dksX0_since_0 19 rfl rfl)
abbrev cX0_once : ByteArray := method_15_code
def yX0_once : MethodName := ⟨RX0, "once", "(LLogGrammar;I[J)I"⟩
def dkwX0_once_0 : List UInt8 := [44, 3, 42, 27, 182, 0, 55, 133, 80, 167, 0, 9, 78, 4, 172, 78, 5, 172, 3, 172]
abbrev dktX0_once_0 : List UInt8 := dkwX0_once_0 ++ []
theorem dksX0_once_0 : cX0_once.data.toList.drop 0 = dktX0_once_0 := by decide +kernel
theorem dX0_once_0 : decode cX0_once 0 = .ok (.aload_n 2, 1) := dk_44 (dk_at dksX0_once_0 0 rfl rfl)
theorem dX0_once_1 : decode cX0_once 1 = .ok (.iconst 0, 1) := dk_3 (dk_at dksX0_once_0 1 rfl rfl)
theorem dX0_once_2 : decode cX0_once 2 = .ok (.aload_n 0, 1) := dk_42 (dk_at dksX0_once_0 2 rfl rfl)
theorem dX0_once_3 : decode cX0_once 3 = .ok (.iload_n 1, 1) := dk_27 (dk_at dksX0_once_0 3 rfl rfl)
theorem dX0_once_4 : decode cX0_once 4 = .ok (.invokevirtual 55, 3) := dk_182 0 55 (dk_at dksX0_once_0 4 rfl rfl)
theorem dX0_once_7 : decode cX0_once 7 = .ok (.i2l, 1) := dk_133 (dk_at dksX0_once_0 7 rfl rfl)
theorem dX0_once_8 : decode cX0_once 8 = .ok (.lastore, 1) := dk_80 (dk_at dksX0_once_0 8 rfl rfl)
theorem dX0_once_9 : decode cX0_once 9 = .ok (.goto 9, 3) := dk_167 0 9 (dk_at dksX0_once_0 9 rfl rfl)
theorem dX0_once_12 : decode cX0_once 12 = .ok (.astore_n 3, 1) := dk_78 (dk_at dksX0_once_0 12 rfl rfl)
theorem dX0_once_13 : decode cX0_once 13 = .ok (.iconst 1, 1) := dk_4 (dk_at dksX0_once_0 13 rfl rfl)
theorem dX0_once_14 : decode cX0_once 14 = .ok (.ireturn, 1) := dk_172 (dk_at dksX0_once_0 14 rfl rfl)
theorem dX0_once_15 : decode cX0_once 15 = .ok (.astore_n 3, 1) := dk_78 (dk_at dksX0_once_0 15 rfl rfl)
theorem dX0_once_16 : decode cX0_once 16 = .ok (.iconst 2, 1) := dk_5 (dk_at dksX0_once_0 16 rfl rfl)
theorem dX0_once_17 : decode cX0_once 17 = .ok (.ireturn, 1) := dk_172 (dk_at dksX0_once_0 17 rfl rfl)
theorem dX0_once_18 : decode cX0_once 18 = .ok (.iconst 0, 1) := dk_3 (dk_at dksX0_once_0 18 rfl rfl)
theorem dX0_once_19 : decode cX0_once 19 = .ok (.ireturn, 1) := dk_172 (dk_at dksX0_once_0 19 rfl rfl)
abbrev cX0_next : ByteArray := method_16_code
def yX0_next : MethodName := ⟨RX0, "next", "(LLogGrammar;[J)I"⟩
def dkwX0_next_0 : List UInt8 := [43, 3, 42, 182, 0, 58, 133, 80, 167, 0, 6, 77, 4, 172, 3, 172]
abbrev dktX0_next_0 : List UInt8 := dkwX0_next_0 ++ []
theorem dksX0_next_0 : cX0_next.data.toList.drop 0 = dktX0_next_0 := by decide +kernel
theorem dX0_next_0 : decode cX0_next 0 = .ok (.aload_n 1, 1) := dk_43 (dk_at dksX0_next_0 0 rfl rfl)
theorem dX0_next_1 : decode cX0_next 1 = .ok (.iconst 0, 1) := dk_3 (dk_at dksX0_next_0 1 rfl rfl)
theorem dX0_next_2 : decode cX0_next 2 = .ok (.aload_n 0, 1) := dk_42 (dk_at dksX0_next_0 2 rfl rfl)
theorem dX0_next_3 : decode cX0_next 3 = .ok (.invokevirtual 58, 3) := dk_182 0 58 (dk_at dksX0_next_0 3 rfl rfl)
theorem dX0_next_6 : decode cX0_next 6 = .ok (.i2l, 1) := dk_133 (dk_at dksX0_next_0 6 rfl rfl)
theorem dX0_next_7 : decode cX0_next 7 = .ok (.lastore, 1) := dk_80 (dk_at dksX0_next_0 7 rfl rfl)
theorem dX0_next_8 : decode cX0_next 8 = .ok (.goto 6, 3) := dk_167 0 6 (dk_at dksX0_next_0 8 rfl rfl)
theorem dX0_next_11 : decode cX0_next 11 = .ok (.astore_n 2, 1) := dk_77 (dk_at dksX0_next_0 11 rfl rfl)
theorem dX0_next_12 : decode cX0_next 12 = .ok (.iconst 1, 1) := dk_4 (dk_at dksX0_next_0 12 rfl rfl)
theorem dX0_next_13 : decode cX0_next 13 = .ok (.ireturn, 1) := dk_172 (dk_at dksX0_next_0 13 rfl rfl)
theorem dX0_next_14 : decode cX0_next 14 = .ok (.iconst 0, 1) := dk_3 (dk_at dksX0_next_0 14 rfl rfl)
theorem dX0_next_15 : decode cX0_next 15 = .ok (.ireturn, 1) := dk_172 (dk_at dksX0_next_0 15 rfl rfl)
abbrev cX0_until : ByteArray := method_17_code
def yX0_until : MethodName := ⟨RX0, "until", "(LLogGrammar;I[J)I"⟩
def dkwX0_until_0 : List UInt8 := [44, 3, 42, 27, 182, 0, 61, 133, 80, 167, 0, 9, 78, 4, 172, 78, 5, 172, 3, 172]
abbrev dktX0_until_0 : List UInt8 := dkwX0_until_0 ++ []
theorem dksX0_until_0 : cX0_until.data.toList.drop 0 = dktX0_until_0 := by decide +kernel
theorem dX0_until_0 : decode cX0_until 0 = .ok (.aload_n 2, 1) := dk_44 (dk_at dksX0_until_0 0 rfl rfl)
theorem dX0_until_1 : decode cX0_until 1 = .ok (.iconst 0, 1) := dk_3 (dk_at dksX0_until_0 1 rfl rfl)
theorem dX0_until_2 : decode cX0_until 2 = .ok (.aload_n 0, 1) := dk_42 (dk_at dksX0_until_0 2 rfl rfl)
theorem dX0_until_3 : decode cX0_until 3 = .ok (.iload_n 1, 1) := dk_27 (dk_at dksX0_until_0 3 rfl rfl)
theorem dX0_until_4 : decode cX0_until 4 = .ok (.invokevirtual 61, 3) := dk_182 0 61 (dk_at dksX0_until_0 4 rfl rfl)
theorem dX0_until_7 : decode cX0_until 7 = .ok (.i2l, 1) := dk_133 (dk_at dksX0_until_0 7 rfl rfl)
theorem dX0_until_8 : decode cX0_until 8 = .ok (.lastore, 1) := dk_80 (dk_at dksX0_until_0 8 rfl rfl)
theorem dX0_until_9 : decode cX0_until 9 = .ok (.goto 9, 3) := dk_167 0 9 (dk_at dksX0_until_0 9 rfl rfl)
theorem dX0_until_12 : decode cX0_until 12 = .ok (.astore_n 3, 1) := dk_78 (dk_at dksX0_until_0 12 rfl rfl)
theorem dX0_until_13 : decode cX0_until 13 = .ok (.iconst 1, 1) := dk_4 (dk_at dksX0_until_0 13 rfl rfl)
theorem dX0_until_14 : decode cX0_until 14 = .ok (.ireturn, 1) := dk_172 (dk_at dksX0_until_0 14 rfl rfl)
theorem dX0_until_15 : decode cX0_until 15 = .ok (.astore_n 3, 1) := dk_78 (dk_at dksX0_until_0 15 rfl rfl)
theorem dX0_until_16 : decode cX0_until 16 = .ok (.iconst 2, 1) := dk_5 (dk_at dksX0_until_0 16 rfl rfl)
theorem dX0_until_17 : decode cX0_until 17 = .ok (.ireturn, 1) := dk_172 (dk_at dksX0_until_0 17 rfl rfl)
theorem dX0_until_18 : decode cX0_until 18 = .ok (.iconst 0, 1) := dk_3 (dk_at dksX0_until_0 18 rfl rfl)
theorem dX0_until_19 : decode cX0_until 19 = .ok (.ireturn, 1) := dk_172 (dk_at dksX0_until_0 19 rfl rfl)
abbrev cX0_soon : ByteArray := method_18_code
def yX0_soon : MethodName := ⟨RX0, "soon", "(LLogGrammar;I[J)I"⟩
def dkwX0_soon_0 : List UInt8 := [44, 3, 42, 27, 182, 0, 64, 133, 80, 167, 0, 9, 78, 4, 172, 78, 5, 172, 3, 172]
abbrev dktX0_soon_0 : List UInt8 := dkwX0_soon_0 ++ []
theorem dksX0_soon_0 : cX0_soon.data.toList.drop 0 = dktX0_soon_0 := by decide +kernel
theorem dX0_soon_0 : decode cX0_soon 0 = .ok (.aload_n 2, 1) := dk_44 (dk_at dksX0_soon_0 0 rfl rfl)
theorem dX0_soon_1 : decode cX0_soon 1 = .ok (.iconst 0, 1) := dk_3 (dk_at dksX0_soon_0 1 rfl rfl)
theorem dX0_soon_2 : decode cX0_soon 2 = .ok (.aload_n 0, 1) := dk_42 (dk_at dksX0_soon_0 2 rfl rfl)
theorem dX0_soon_3 : decode cX0_soon 3 = .ok (.iload_n 1, 1) := dk_27 (dk_at dksX0_soon_0 3 rfl rfl)
theorem dX0_soon_4 : decode cX0_soon 4 = .ok (.invokevirtual 64, 3) := dk_182 0 64 (dk_at dksX0_soon_0 4 rfl rfl)
theorem dX0_soon_7 : decode cX0_soon 7 = .ok (.i2l, 1) := dk_133 (dk_at dksX0_soon_0 7 rfl rfl)
theorem dX0_soon_8 : decode cX0_soon 8 = .ok (.lastore, 1) := dk_80 (dk_at dksX0_soon_0 8 rfl rfl)
theorem dX0_soon_9 : decode cX0_soon 9 = .ok (.goto 9, 3) := dk_167 0 9 (dk_at dksX0_soon_0 9 rfl rfl)
theorem dX0_soon_12 : decode cX0_soon 12 = .ok (.astore_n 3, 1) := dk_78 (dk_at dksX0_soon_0 12 rfl rfl)
theorem dX0_soon_13 : decode cX0_soon 13 = .ok (.iconst 1, 1) := dk_4 (dk_at dksX0_soon_0 13 rfl rfl)
theorem dX0_soon_14 : decode cX0_soon 14 = .ok (.ireturn, 1) := dk_172 (dk_at dksX0_soon_0 14 rfl rfl)
theorem dX0_soon_15 : decode cX0_soon 15 = .ok (.astore_n 3, 1) := dk_78 (dk_at dksX0_soon_0 15 rfl rfl)
theorem dX0_soon_16 : decode cX0_soon 16 = .ok (.iconst 2, 1) := dk_5 (dk_at dksX0_soon_0 16 rfl rfl)
theorem dX0_soon_17 : decode cX0_soon 17 = .ok (.ireturn, 1) := dk_172 (dk_at dksX0_soon_0 17 rfl rfl)
theorem dX0_soon_18 : decode cX0_soon 18 = .ok (.iconst 0, 1) := dk_3 (dk_at dksX0_soon_0 18 rfl rfl)
theorem dX0_soon_19 : decode cX0_soon 19 = .ok (.ireturn, 1) := dk_172 (dk_at dksX0_soon_0 19 rfl rfl)
abbrev cX0_many : ByteArray := method_19_code
def yX0_many : MethodName := ⟨RX0, "many", "(LLogGrammar;II[J)I"⟩
def dkwX0_many_0 : List UInt8 := [45, 3, 42, 27, 28, 182, 0, 67, 133, 80, 167, 0, 11, 58, 4, 4, 172, 58, 4, 5, 172, 3, 172]
abbrev dktX0_many_0 : List UInt8 := dkwX0_many_0 ++ []
theorem dksX0_many_0 : cX0_many.data.toList.drop 0 = dktX0_many_0 := by decide +kernel
theorem dX0_many_0 : decode cX0_many 0 = .ok (.aload_n 3, 1) := dk_45 (dk_at dksX0_many_0 0 rfl rfl)
theorem dX0_many_1 : decode cX0_many 1 = .ok (.iconst 0, 1) := dk_3 (dk_at dksX0_many_0 1 rfl rfl)
theorem dX0_many_2 : decode cX0_many 2 = .ok (.aload_n 0, 1) := dk_42 (dk_at dksX0_many_0 2 rfl rfl)
theorem dX0_many_3 : decode cX0_many 3 = .ok (.iload_n 1, 1) := dk_27 (dk_at dksX0_many_0 3 rfl rfl)
theorem dX0_many_4 : decode cX0_many 4 = .ok (.iload_n 2, 1) := dk_28 (dk_at dksX0_many_0 4 rfl rfl)
theorem dX0_many_5 : decode cX0_many 5 = .ok (.invokevirtual 67, 3) := dk_182 0 67 (dk_at dksX0_many_0 5 rfl rfl)
theorem dX0_many_8 : decode cX0_many 8 = .ok (.i2l, 1) := dk_133 (dk_at dksX0_many_0 8 rfl rfl)
theorem dX0_many_9 : decode cX0_many 9 = .ok (.lastore, 1) := dk_80 (dk_at dksX0_many_0 9 rfl rfl)
theorem dX0_many_10 : decode cX0_many 10 = .ok (.goto 11, 3) := dk_167 0 11 (dk_at dksX0_many_0 10 rfl rfl)
theorem dX0_many_13 : decode cX0_many 13 = .ok (.astore 4, 2) := dk_58 4 (dk_at dksX0_many_0 13 rfl rfl)
theorem dX0_many_15 : decode cX0_many 15 = .ok (.iconst 1, 1) := dk_4 (dk_at dksX0_many_0 15 rfl rfl)
theorem dX0_many_16 : decode cX0_many 16 = .ok (.ireturn, 1) := dk_172 (dk_at dksX0_many_0 16 rfl rfl)
theorem dX0_many_17 : decode cX0_many 17 = .ok (.astore 4, 2) := dk_58 4 (dk_at dksX0_many_0 17 rfl rfl)
theorem dX0_many_19 : decode cX0_many 19 = .ok (.iconst 2, 1) := dk_5 (dk_at dksX0_many_0 19 rfl rfl)
theorem dX0_many_20 : decode cX0_many 20 = .ok (.ireturn, 1) := dk_172 (dk_at dksX0_many_0 20 rfl rfl)
theorem dX0_many_21 : decode cX0_many 21 = .ok (.iconst 0, 1) := dk_3 (dk_at dksX0_many_0 21 rfl rfl)
theorem dX0_many_22 : decode cX0_many 22 = .ok (.ireturn, 1) := dk_172 (dk_at dksX0_many_0 22 rfl rfl)
abbrev cX0_watch : ByteArray := method_20_code
def yX0_watch : MethodName := ⟨RX0, "watch", "(LLogGrammar;ZZ[J)I"⟩
def dkwX0_watch_0 : List UInt8 := [45, 3, 42, 27, 28, 182, 0, 70, 133, 80, 167, 0, 7, 58, 4, 4, 172, 3, 172]
abbrev dktX0_watch_0 : List UInt8 := dkwX0_watch_0 ++ []
theorem dksX0_watch_0 : cX0_watch.data.toList.drop 0 = dktX0_watch_0 := by decide +kernel
theorem dX0_watch_0 : decode cX0_watch 0 = .ok (.aload_n 3, 1) := dk_45 (dk_at dksX0_watch_0 0 rfl rfl)
theorem dX0_watch_1 : decode cX0_watch 1 = .ok (.iconst 0, 1) := dk_3 (dk_at dksX0_watch_0 1 rfl rfl)
theorem dX0_watch_2 : decode cX0_watch 2 = .ok (.aload_n 0, 1) := dk_42 (dk_at dksX0_watch_0 2 rfl rfl)
theorem dX0_watch_3 : decode cX0_watch 3 = .ok (.iload_n 1, 1) := dk_27 (dk_at dksX0_watch_0 3 rfl rfl)
theorem dX0_watch_4 : decode cX0_watch 4 = .ok (.iload_n 2, 1) := dk_28 (dk_at dksX0_watch_0 4 rfl rfl)
theorem dX0_watch_5 : decode cX0_watch 5 = .ok (.invokevirtual 70, 3) := dk_182 0 70 (dk_at dksX0_watch_0 5 rfl rfl)
theorem dX0_watch_8 : decode cX0_watch 8 = .ok (.i2l, 1) := dk_133 (dk_at dksX0_watch_0 8 rfl rfl)
theorem dX0_watch_9 : decode cX0_watch 9 = .ok (.lastore, 1) := dk_80 (dk_at dksX0_watch_0 9 rfl rfl)
theorem dX0_watch_10 : decode cX0_watch 10 = .ok (.goto 7, 3) := dk_167 0 7 (dk_at dksX0_watch_0 10 rfl rfl)
theorem dX0_watch_13 : decode cX0_watch 13 = .ok (.astore 4, 2) := dk_58 4 (dk_at dksX0_watch_0 13 rfl rfl)
theorem dX0_watch_15 : decode cX0_watch 15 = .ok (.iconst 1, 1) := dk_4 (dk_at dksX0_watch_0 15 rfl rfl)
theorem dX0_watch_16 : decode cX0_watch 16 = .ok (.ireturn, 1) := dk_172 (dk_at dksX0_watch_0 16 rfl rfl)
theorem dX0_watch_17 : decode cX0_watch 17 = .ok (.iconst 0, 1) := dk_3 (dk_at dksX0_watch_0 17 rfl rfl)
theorem dX0_watch_18 : decode cX0_watch 18 = .ok (.ireturn, 1) := dk_172 (dk_at dksX0_watch_0 18 rfl rfl)
abbrev cX0_eventAt : ByteArray := method_21_code
def yX0_eventAt : MethodName := ⟨RX0, "eventAt", "(LLogGrammar;I[J)I"⟩
def dkwX0_eventAt_0 : List UInt8 := [44, 3, 42, 27, 182, 0, 74, 133, 80, 167, 0, 6, 78, 4, 172, 3, 172]
abbrev dktX0_eventAt_0 : List UInt8 := dkwX0_eventAt_0 ++ []
theorem dksX0_eventAt_0 : cX0_eventAt.data.toList.drop 0 = dktX0_eventAt_0 := by decide +kernel
theorem dX0_eventAt_0 : decode cX0_eventAt 0 = .ok (.aload_n 2, 1) := dk_44 (dk_at dksX0_eventAt_0 0 rfl rfl)
theorem dX0_eventAt_1 : decode cX0_eventAt 1 = .ok (.iconst 0, 1) := dk_3 (dk_at dksX0_eventAt_0 1 rfl rfl)
theorem dX0_eventAt_2 : decode cX0_eventAt 2 = .ok (.aload_n 0, 1) := dk_42 (dk_at dksX0_eventAt_0 2 rfl rfl)
theorem dX0_eventAt_3 : decode cX0_eventAt 3 = .ok (.iload_n 1, 1) := dk_27 (dk_at dksX0_eventAt_0 3 rfl rfl)
theorem dX0_eventAt_4 : decode cX0_eventAt 4 = .ok (.invokevirtual 74, 3) := dk_182 0 74 (dk_at dksX0_eventAt_0 4 rfl rfl)
theorem dX0_eventAt_7 : decode cX0_eventAt 7 = .ok (.i2l, 1) := dk_133 (dk_at dksX0_eventAt_0 7 rfl rfl)
theorem dX0_eventAt_8 : decode cX0_eventAt 8 = .ok (.lastore, 1) := dk_80 (dk_at dksX0_eventAt_0 8 rfl rfl)
theorem dX0_eventAt_9 : decode cX0_eventAt 9 = .ok (.goto 6, 3) := dk_167 0 6 (dk_at dksX0_eventAt_0 9 rfl rfl)
theorem dX0_eventAt_12 : decode cX0_eventAt 12 = .ok (.astore_n 3, 1) := dk_78 (dk_at dksX0_eventAt_0 12 rfl rfl)
theorem dX0_eventAt_13 : decode cX0_eventAt 13 = .ok (.iconst 1, 1) := dk_4 (dk_at dksX0_eventAt_0 13 rfl rfl)
theorem dX0_eventAt_14 : decode cX0_eventAt 14 = .ok (.ireturn, 1) := dk_172 (dk_at dksX0_eventAt_0 14 rfl rfl)
theorem dX0_eventAt_15 : decode cX0_eventAt 15 = .ok (.iconst 0, 1) := dk_3 (dk_at dksX0_eventAt_0 15 rfl rfl)
theorem dX0_eventAt_16 : decode cX0_eventAt 16 = .ok (.ireturn, 1) := dk_172 (dk_at dksX0_eventAt_0 16 rfl rfl)
abbrev cX0_timeOf : ByteArray := method_22_code
def yX0_timeOf : MethodName := ⟨RX0, "timeOf", "(LLogGrammar;I[J)I"⟩
def dkwX0_timeOf_0 : List UInt8 := [44, 3, 42, 27, 182, 0, 77, 133, 80, 167, 0, 6, 78, 4, 172, 3, 172]
abbrev dktX0_timeOf_0 : List UInt8 := dkwX0_timeOf_0 ++ []
theorem dksX0_timeOf_0 : cX0_timeOf.data.toList.drop 0 = dktX0_timeOf_0 := by decide +kernel
theorem dX0_timeOf_0 : decode cX0_timeOf 0 = .ok (.aload_n 2, 1) := dk_44 (dk_at dksX0_timeOf_0 0 rfl rfl)
theorem dX0_timeOf_1 : decode cX0_timeOf 1 = .ok (.iconst 0, 1) := dk_3 (dk_at dksX0_timeOf_0 1 rfl rfl)
theorem dX0_timeOf_2 : decode cX0_timeOf 2 = .ok (.aload_n 0, 1) := dk_42 (dk_at dksX0_timeOf_0 2 rfl rfl)
theorem dX0_timeOf_3 : decode cX0_timeOf 3 = .ok (.iload_n 1, 1) := dk_27 (dk_at dksX0_timeOf_0 3 rfl rfl)
theorem dX0_timeOf_4 : decode cX0_timeOf 4 = .ok (.invokevirtual 77, 3) := dk_182 0 77 (dk_at dksX0_timeOf_0 4 rfl rfl)
theorem dX0_timeOf_7 : decode cX0_timeOf 7 = .ok (.i2l, 1) := dk_133 (dk_at dksX0_timeOf_0 7 rfl rfl)
theorem dX0_timeOf_8 : decode cX0_timeOf 8 = .ok (.lastore, 1) := dk_80 (dk_at dksX0_timeOf_0 8 rfl rfl)
theorem dX0_timeOf_9 : decode cX0_timeOf 9 = .ok (.goto 6, 3) := dk_167 0 6 (dk_at dksX0_timeOf_0 9 rfl rfl)
theorem dX0_timeOf_12 : decode cX0_timeOf 12 = .ok (.astore_n 3, 1) := dk_78 (dk_at dksX0_timeOf_0 12 rfl rfl)
theorem dX0_timeOf_13 : decode cX0_timeOf 13 = .ok (.iconst 1, 1) := dk_4 (dk_at dksX0_timeOf_0 13 rfl rfl)
theorem dX0_timeOf_14 : decode cX0_timeOf 14 = .ok (.ireturn, 1) := dk_172 (dk_at dksX0_timeOf_0 14 rfl rfl)
theorem dX0_timeOf_15 : decode cX0_timeOf 15 = .ok (.iconst 0, 1) := dk_3 (dk_at dksX0_timeOf_0 15 rfl rfl)
theorem dX0_timeOf_16 : decode cX0_timeOf 16 = .ok (.ireturn, 1) := dk_172 (dk_at dksX0_timeOf_0 16 rfl rfl)
abbrev cX0_isLate : ByteArray := method_23_code
def yX0_isLate : MethodName := ⟨RX0, "isLate", "(LLogGrammar;I[J)I"⟩
def dkwX0_isLate_0 : List UInt8 := [44, 3, 42, 27, 182, 0, 80, 153, 0, 7, 10, 167, 0, 4, 9, 80, 167, 0, 6, 78, 4, 172, 3, 172]
abbrev dktX0_isLate_0 : List UInt8 := dkwX0_isLate_0 ++ []
theorem dksX0_isLate_0 : cX0_isLate.data.toList.drop 0 = dktX0_isLate_0 := by decide +kernel
theorem dX0_isLate_0 : decode cX0_isLate 0 = .ok (.aload_n 2, 1) := dk_44 (dk_at dksX0_isLate_0 0 rfl rfl)
theorem dX0_isLate_1 : decode cX0_isLate 1 = .ok (.iconst 0, 1) := dk_3 (dk_at dksX0_isLate_0 1 rfl rfl)
theorem dX0_isLate_2 : decode cX0_isLate 2 = .ok (.aload_n 0, 1) := dk_42 (dk_at dksX0_isLate_0 2 rfl rfl)
theorem dX0_isLate_3 : decode cX0_isLate 3 = .ok (.iload_n 1, 1) := dk_27 (dk_at dksX0_isLate_0 3 rfl rfl)
theorem dX0_isLate_4 : decode cX0_isLate 4 = .ok (.invokevirtual 80, 3) := dk_182 0 80 (dk_at dksX0_isLate_0 4 rfl rfl)
theorem dX0_isLate_7 : decode cX0_isLate 7 = .ok (.ifCond .eq 7, 3) := dk_153 0 7 (dk_at dksX0_isLate_0 7 rfl rfl)
theorem dX0_isLate_10 : decode cX0_isLate 10 = .ok (.lconst 1, 1) := dk_10 (dk_at dksX0_isLate_0 10 rfl rfl)
theorem dX0_isLate_11 : decode cX0_isLate 11 = .ok (.goto 4, 3) := dk_167 0 4 (dk_at dksX0_isLate_0 11 rfl rfl)
theorem dX0_isLate_14 : decode cX0_isLate 14 = .ok (.lconst 0, 1) := dk_9 (dk_at dksX0_isLate_0 14 rfl rfl)
theorem dX0_isLate_15 : decode cX0_isLate 15 = .ok (.lastore, 1) := dk_80 (dk_at dksX0_isLate_0 15 rfl rfl)
theorem dX0_isLate_16 : decode cX0_isLate 16 = .ok (.goto 6, 3) := dk_167 0 6 (dk_at dksX0_isLate_0 16 rfl rfl)
theorem dX0_isLate_19 : decode cX0_isLate 19 = .ok (.astore_n 3, 1) := dk_78 (dk_at dksX0_isLate_0 19 rfl rfl)
theorem dX0_isLate_20 : decode cX0_isLate 20 = .ok (.iconst 1, 1) := dk_4 (dk_at dksX0_isLate_0 20 rfl rfl)
theorem dX0_isLate_21 : decode cX0_isLate 21 = .ok (.ireturn, 1) := dk_172 (dk_at dksX0_isLate_0 21 rfl rfl)
theorem dX0_isLate_22 : decode cX0_isLate 22 = .ok (.iconst 0, 1) := dk_3 (dk_at dksX0_isLate_0 22 rfl rfl)
theorem dX0_isLate_23 : decode cX0_isLate 23 = .ok (.ireturn, 1) := dk_172 (dk_at dksX0_isLate_0 23 rfl rfl)
abbrev cX0_count : ByteArray := method_24_code
def yX0_count : MethodName := ⟨RX0, "count", "(LLogGrammar;III[J)I"⟩
def dkwX0_count_0 : List UInt8 := [25, 4, 3, 42, 27, 28, 29, 182, 0, 84, 133, 80, 167, 0, 7, 58, 5, 4, 172, 3, 172]
abbrev dktX0_count_0 : List UInt8 := dkwX0_count_0 ++ []
theorem dksX0_count_0 : cX0_count.data.toList.drop 0 = dktX0_count_0 := by decide +kernel
theorem dX0_count_0 : decode cX0_count 0 = .ok (.aload 4, 2) := dk_25 4 (dk_at dksX0_count_0 0 rfl rfl)
theorem dX0_count_2 : decode cX0_count 2 = .ok (.iconst 0, 1) := dk_3 (dk_at dksX0_count_0 2 rfl rfl)
theorem dX0_count_3 : decode cX0_count 3 = .ok (.aload_n 0, 1) := dk_42 (dk_at dksX0_count_0 3 rfl rfl)
theorem dX0_count_4 : decode cX0_count 4 = .ok (.iload_n 1, 1) := dk_27 (dk_at dksX0_count_0 4 rfl rfl)
theorem dX0_count_5 : decode cX0_count 5 = .ok (.iload_n 2, 1) := dk_28 (dk_at dksX0_count_0 5 rfl rfl)
theorem dX0_count_6 : decode cX0_count 6 = .ok (.iload_n 3, 1) := dk_29 (dk_at dksX0_count_0 6 rfl rfl)
theorem dX0_count_7 : decode cX0_count 7 = .ok (.invokevirtual 84, 3) := dk_182 0 84 (dk_at dksX0_count_0 7 rfl rfl)
theorem dX0_count_10 : decode cX0_count 10 = .ok (.i2l, 1) := dk_133 (dk_at dksX0_count_0 10 rfl rfl)
theorem dX0_count_11 : decode cX0_count 11 = .ok (.lastore, 1) := dk_80 (dk_at dksX0_count_0 11 rfl rfl)
theorem dX0_count_12 : decode cX0_count 12 = .ok (.goto 7, 3) := dk_167 0 7 (dk_at dksX0_count_0 12 rfl rfl)
theorem dX0_count_15 : decode cX0_count 15 = .ok (.astore 5, 2) := dk_58 5 (dk_at dksX0_count_0 15 rfl rfl)
theorem dX0_count_17 : decode cX0_count 17 = .ok (.iconst 1, 1) := dk_4 (dk_at dksX0_count_0 17 rfl rfl)
theorem dX0_count_18 : decode cX0_count 18 = .ok (.ireturn, 1) := dk_172 (dk_at dksX0_count_0 18 rfl rfl)
theorem dX0_count_19 : decode cX0_count 19 = .ok (.iconst 0, 1) := dk_3 (dk_at dksX0_count_0 19 rfl rfl)
theorem dX0_count_20 : decode cX0_count 20 = .ok (.ireturn, 1) := dk_172 (dk_at dksX0_count_0 20 rfl rfl)
abbrev cX0_greatest : ByteArray := method_25_code
def yX0_greatest : MethodName := ⟨RX0, "greatest", "(LLogGrammar;III[J)I"⟩
def dkwX0_greatest_0 : List UInt8 := [25, 4, 3, 42, 27, 28, 29, 182, 0, 88, 133, 80, 167, 0, 7, 58, 5, 4, 172, 3, 172]
abbrev dktX0_greatest_0 : List UInt8 := dkwX0_greatest_0 ++ []
theorem dksX0_greatest_0 : cX0_greatest.data.toList.drop 0 = dktX0_greatest_0 := by decide +kernel
theorem dX0_greatest_0 : decode cX0_greatest 0 = .ok (.aload 4, 2) := dk_25 4 (dk_at dksX0_greatest_0 0 rfl rfl)
theorem dX0_greatest_2 : decode cX0_greatest 2 = .ok (.iconst 0, 1) := dk_3 (dk_at dksX0_greatest_0 2 rfl rfl)
theorem dX0_greatest_3 : decode cX0_greatest 3 = .ok (.aload_n 0, 1) := dk_42 (dk_at dksX0_greatest_0 3 rfl rfl)
theorem dX0_greatest_4 : decode cX0_greatest 4 = .ok (.iload_n 1, 1) := dk_27 (dk_at dksX0_greatest_0 4 rfl rfl)
theorem dX0_greatest_5 : decode cX0_greatest 5 = .ok (.iload_n 2, 1) := dk_28 (dk_at dksX0_greatest_0 5 rfl rfl)
theorem dX0_greatest_6 : decode cX0_greatest 6 = .ok (.iload_n 3, 1) := dk_29 (dk_at dksX0_greatest_0 6 rfl rfl)
theorem dX0_greatest_7 : decode cX0_greatest 7 = .ok (.invokevirtual 88, 3) := dk_182 0 88 (dk_at dksX0_greatest_0 7 rfl rfl)
theorem dX0_greatest_10 : decode cX0_greatest 10 = .ok (.i2l, 1) := dk_133 (dk_at dksX0_greatest_0 10 rfl rfl)
theorem dX0_greatest_11 : decode cX0_greatest 11 = .ok (.lastore, 1) := dk_80 (dk_at dksX0_greatest_0 11 rfl rfl)
theorem dX0_greatest_12 : decode cX0_greatest 12 = .ok (.goto 7, 3) := dk_167 0 7 (dk_at dksX0_greatest_0 12 rfl rfl)
theorem dX0_greatest_15 : decode cX0_greatest 15 = .ok (.astore 5, 2) := dk_58 5 (dk_at dksX0_greatest_0 15 rfl rfl)
theorem dX0_greatest_17 : decode cX0_greatest 17 = .ok (.iconst 1, 1) := dk_4 (dk_at dksX0_greatest_0 17 rfl rfl)
theorem dX0_greatest_18 : decode cX0_greatest 18 = .ok (.ireturn, 1) := dk_172 (dk_at dksX0_greatest_0 18 rfl rfl)
theorem dX0_greatest_19 : decode cX0_greatest 19 = .ok (.iconst 0, 1) := dk_3 (dk_at dksX0_greatest_0 19 rfl rfl)
theorem dX0_greatest_20 : decode cX0_greatest 20 = .ok (.ireturn, 1) := dk_172 (dk_at dksX0_greatest_0 20 rfl rfl)
abbrev cX0_greatestByAll : ByteArray := method_26_code
def yX0_greatestByAll : MethodName := ⟨RX0, "greatestByAll", "(LLogGrammar;III[J)I"⟩
def dkwX0_greatestByAll_0 : List UInt8 := [25, 4, 3, 42, 27, 28, 29, 182, 0, 91, 133, 80, 167, 0, 7, 58, 5, 4, 172, 3, 172]
abbrev dktX0_greatestByAll_0 : List UInt8 := dkwX0_greatestByAll_0 ++ []
theorem dksX0_greatestByAll_0 : cX0_greatestByAll.data.toList.drop 0 = dktX0_greatestByAll_0 := by decide +kernel
theorem dX0_greatestByAll_0 : decode cX0_greatestByAll 0 = .ok (.aload 4, 2) := dk_25 4 (dk_at dksX0_greatestByAll_0 0 rfl rfl)
theorem dX0_greatestByAll_2 : decode cX0_greatestByAll 2 = .ok (.iconst 0, 1) := dk_3 (dk_at dksX0_greatestByAll_0 2 rfl rfl)
theorem dX0_greatestByAll_3 : decode cX0_greatestByAll 3 = .ok (.aload_n 0, 1) := dk_42 (dk_at dksX0_greatestByAll_0 3 rfl rfl)
theorem dX0_greatestByAll_4 : decode cX0_greatestByAll 4 = .ok (.iload_n 1, 1) := dk_27 (dk_at dksX0_greatestByAll_0 4 rfl rfl)
theorem dX0_greatestByAll_5 : decode cX0_greatestByAll 5 = .ok (.iload_n 2, 1) := dk_28 (dk_at dksX0_greatestByAll_0 5 rfl rfl)
theorem dX0_greatestByAll_6 : decode cX0_greatestByAll 6 = .ok (.iload_n 3, 1) := dk_29 (dk_at dksX0_greatestByAll_0 6 rfl rfl)
theorem dX0_greatestByAll_7 : decode cX0_greatestByAll 7 = .ok (.invokevirtual 91, 3) := dk_182 0 91 (dk_at dksX0_greatestByAll_0 7 rfl rfl)
theorem dX0_greatestByAll_10 : decode cX0_greatestByAll 10 = .ok (.i2l, 1) := dk_133 (dk_at dksX0_greatestByAll_0 10 rfl rfl)
theorem dX0_greatestByAll_11 : decode cX0_greatestByAll 11 = .ok (.lastore, 1) := dk_80 (dk_at dksX0_greatestByAll_0 11 rfl rfl)
theorem dX0_greatestByAll_12 : decode cX0_greatestByAll 12 = .ok (.goto 7, 3) := dk_167 0 7 (dk_at dksX0_greatestByAll_0 12 rfl rfl)
theorem dX0_greatestByAll_15 : decode cX0_greatestByAll 15 = .ok (.astore 5, 2) := dk_58 5 (dk_at dksX0_greatestByAll_0 15 rfl rfl)
theorem dX0_greatestByAll_17 : decode cX0_greatestByAll 17 = .ok (.iconst 1, 1) := dk_4 (dk_at dksX0_greatestByAll_0 17 rfl rfl)
theorem dX0_greatestByAll_18 : decode cX0_greatestByAll 18 = .ok (.ireturn, 1) := dk_172 (dk_at dksX0_greatestByAll_0 18 rfl rfl)
theorem dX0_greatestByAll_19 : decode cX0_greatestByAll 19 = .ok (.iconst 0, 1) := dk_3 (dk_at dksX0_greatestByAll_0 19 rfl rfl)
theorem dX0_greatestByAll_20 : decode cX0_greatestByAll 20 = .ok (.ireturn, 1) := dk_172 (dk_at dksX0_greatestByAll_0 20 rfl rfl)
abbrev cX0_answer : ByteArray := method_27_code
def yX0_answer : MethodName := ⟨RX0, "answer", "(LLogGrammar;II[J)I"⟩
def dkwX0_answer_0 : List UInt8 := [45, 3, 42, 27, 28, 182, 0, 94, 133, 80, 167, 0, 7, 58, 4, 4, 172, 3, 172]
abbrev dktX0_answer_0 : List UInt8 := dkwX0_answer_0 ++ []
theorem dksX0_answer_0 : cX0_answer.data.toList.drop 0 = dktX0_answer_0 := by decide +kernel
theorem dX0_answer_0 : decode cX0_answer 0 = .ok (.aload_n 3, 1) := dk_45 (dk_at dksX0_answer_0 0 rfl rfl)
theorem dX0_answer_1 : decode cX0_answer 1 = .ok (.iconst 0, 1) := dk_3 (dk_at dksX0_answer_0 1 rfl rfl)
theorem dX0_answer_2 : decode cX0_answer 2 = .ok (.aload_n 0, 1) := dk_42 (dk_at dksX0_answer_0 2 rfl rfl)
theorem dX0_answer_3 : decode cX0_answer 3 = .ok (.iload_n 1, 1) := dk_27 (dk_at dksX0_answer_0 3 rfl rfl)
theorem dX0_answer_4 : decode cX0_answer 4 = .ok (.iload_n 2, 1) := dk_28 (dk_at dksX0_answer_0 4 rfl rfl)
theorem dX0_answer_5 : decode cX0_answer 5 = .ok (.invokevirtual 94, 3) := dk_182 0 94 (dk_at dksX0_answer_0 5 rfl rfl)
theorem dX0_answer_8 : decode cX0_answer 8 = .ok (.i2l, 1) := dk_133 (dk_at dksX0_answer_0 8 rfl rfl)
theorem dX0_answer_9 : decode cX0_answer 9 = .ok (.lastore, 1) := dk_80 (dk_at dksX0_answer_0 9 rfl rfl)
theorem dX0_answer_10 : decode cX0_answer 10 = .ok (.goto 7, 3) := dk_167 0 7 (dk_at dksX0_answer_0 10 rfl rfl)
theorem dX0_answer_13 : decode cX0_answer 13 = .ok (.astore 4, 2) := dk_58 4 (dk_at dksX0_answer_0 13 rfl rfl)
theorem dX0_answer_15 : decode cX0_answer 15 = .ok (.iconst 1, 1) := dk_4 (dk_at dksX0_answer_0 15 rfl rfl)
theorem dX0_answer_16 : decode cX0_answer 16 = .ok (.ireturn, 1) := dk_172 (dk_at dksX0_answer_0 16 rfl rfl)
theorem dX0_answer_17 : decode cX0_answer 17 = .ok (.iconst 0, 1) := dk_3 (dk_at dksX0_answer_0 17 rfl rfl)
theorem dX0_answer_18 : decode cX0_answer 18 = .ok (.ireturn, 1) := dk_172 (dk_at dksX0_answer_0 18 rfl rfl)
abbrev cX0_answerAnew : ByteArray := method_28_code
def yX0_answerAnew : MethodName := ⟨RX0, "answerAnew", "(LLogGrammar;II[J)I"⟩
def dkwX0_answerAnew_0 : List UInt8 := [45, 3, 42, 27, 28, 182, 0, 97, 133, 80, 167, 0, 7, 58, 4, 4, 172, 3, 172]
abbrev dktX0_answerAnew_0 : List UInt8 := dkwX0_answerAnew_0 ++ []
theorem dksX0_answerAnew_0 : cX0_answerAnew.data.toList.drop 0 = dktX0_answerAnew_0 := by decide +kernel
theorem dX0_answerAnew_0 : decode cX0_answerAnew 0 = .ok (.aload_n 3, 1) := dk_45 (dk_at dksX0_answerAnew_0 0 rfl rfl)
theorem dX0_answerAnew_1 : decode cX0_answerAnew 1 = .ok (.iconst 0, 1) := dk_3 (dk_at dksX0_answerAnew_0 1 rfl rfl)
theorem dX0_answerAnew_2 : decode cX0_answerAnew 2 = .ok (.aload_n 0, 1) := dk_42 (dk_at dksX0_answerAnew_0 2 rfl rfl)
theorem dX0_answerAnew_3 : decode cX0_answerAnew 3 = .ok (.iload_n 1, 1) := dk_27 (dk_at dksX0_answerAnew_0 3 rfl rfl)
theorem dX0_answerAnew_4 : decode cX0_answerAnew 4 = .ok (.iload_n 2, 1) := dk_28 (dk_at dksX0_answerAnew_0 4 rfl rfl)
theorem dX0_answerAnew_5 : decode cX0_answerAnew 5 = .ok (.invokevirtual 97, 3) := dk_182 0 97 (dk_at dksX0_answerAnew_0 5 rfl rfl)
theorem dX0_answerAnew_8 : decode cX0_answerAnew 8 = .ok (.i2l, 1) := dk_133 (dk_at dksX0_answerAnew_0 8 rfl rfl)
theorem dX0_answerAnew_9 : decode cX0_answerAnew 9 = .ok (.lastore, 1) := dk_80 (dk_at dksX0_answerAnew_0 9 rfl rfl)
theorem dX0_answerAnew_10 : decode cX0_answerAnew 10 = .ok (.goto 7, 3) := dk_167 0 7 (dk_at dksX0_answerAnew_0 10 rfl rfl)
theorem dX0_answerAnew_13 : decode cX0_answerAnew 13 = .ok (.astore 4, 2) := dk_58 4 (dk_at dksX0_answerAnew_0 13 rfl rfl)
theorem dX0_answerAnew_15 : decode cX0_answerAnew 15 = .ok (.iconst 1, 1) := dk_4 (dk_at dksX0_answerAnew_0 15 rfl rfl)
theorem dX0_answerAnew_16 : decode cX0_answerAnew 16 = .ok (.ireturn, 1) := dk_172 (dk_at dksX0_answerAnew_0 16 rfl rfl)
theorem dX0_answerAnew_17 : decode cX0_answerAnew 17 = .ok (.iconst 0, 1) := dk_3 (dk_at dksX0_answerAnew_0 17 rfl rfl)
theorem dX0_answerAnew_18 : decode cX0_answerAnew 18 = .ok (.ireturn, 1) := dk_172 (dk_at dksX0_answerAnew_0 18 rfl rfl)
abbrev cX0_knownSince : ByteArray := method_29_code
def yX0_knownSince : MethodName := ⟨RX0, "knownSince", "(LLogGrammar;II[J)I"⟩
def dkwX0_knownSince_0 : List UInt8 := [45, 3, 42, 27, 28, 182, 0, 100, 133, 80, 167, 0, 7, 58, 4, 4, 172, 3, 172]
abbrev dktX0_knownSince_0 : List UInt8 := dkwX0_knownSince_0 ++ []
theorem dksX0_knownSince_0 : cX0_knownSince.data.toList.drop 0 = dktX0_knownSince_0 := by decide +kernel
theorem dX0_knownSince_0 : decode cX0_knownSince 0 = .ok (.aload_n 3, 1) := dk_45 (dk_at dksX0_knownSince_0 0 rfl rfl)
theorem dX0_knownSince_1 : decode cX0_knownSince 1 = .ok (.iconst 0, 1) := dk_3 (dk_at dksX0_knownSince_0 1 rfl rfl)
theorem dX0_knownSince_2 : decode cX0_knownSince 2 = .ok (.aload_n 0, 1) := dk_42 (dk_at dksX0_knownSince_0 2 rfl rfl)
theorem dX0_knownSince_3 : decode cX0_knownSince 3 = .ok (.iload_n 1, 1) := dk_27 (dk_at dksX0_knownSince_0 3 rfl rfl)
theorem dX0_knownSince_4 : decode cX0_knownSince 4 = .ok (.iload_n 2, 1) := dk_28 (dk_at dksX0_knownSince_0 4 rfl rfl)
theorem dX0_knownSince_5 : decode cX0_knownSince 5 = .ok (.invokevirtual 100, 3) := dk_182 0 100 (dk_at dksX0_knownSince_0 5 rfl rfl)
theorem dX0_knownSince_8 : decode cX0_knownSince 8 = .ok (.i2l, 1) := dk_133 (dk_at dksX0_knownSince_0 8 rfl rfl)
theorem dX0_knownSince_9 : decode cX0_knownSince 9 = .ok (.lastore, 1) := dk_80 (dk_at dksX0_knownSince_0 9 rfl rfl)
theorem dX0_knownSince_10 : decode cX0_knownSince 10 = .ok (.goto 7, 3) := dk_167 0 7 (dk_at dksX0_knownSince_0 10 rfl rfl)
theorem dX0_knownSince_13 : decode cX0_knownSince 13 = .ok (.astore 4, 2) := dk_58 4 (dk_at dksX0_knownSince_0 13 rfl rfl)
theorem dX0_knownSince_15 : decode cX0_knownSince 15 = .ok (.iconst 1, 1) := dk_4 (dk_at dksX0_knownSince_0 15 rfl rfl)
theorem dX0_knownSince_16 : decode cX0_knownSince 16 = .ok (.ireturn, 1) := dk_172 (dk_at dksX0_knownSince_0 16 rfl rfl)
theorem dX0_knownSince_17 : decode cX0_knownSince 17 = .ok (.iconst 0, 1) := dk_3 (dk_at dksX0_knownSince_0 17 rfl rfl)
theorem dX0_knownSince_18 : decode cX0_knownSince 18 = .ok (.ireturn, 1) := dk_172 (dk_at dksX0_knownSince_0 18 rfl rfl)
abbrev cX0_answers : ByteArray := method_30_code
def yX0_answers : MethodName := ⟨RX0, "answers", "(LLogGrammar;II[J)I"⟩
def dkwX0_answers_0 : List UInt8 := [45, 3, 42, 27, 28, 182, 0, 103, 133, 80, 167, 0, 11, 58, 4, 4, 172, 58, 4, 5, 172, 3, 172]
abbrev dktX0_answers_0 : List UInt8 := dkwX0_answers_0 ++ []
theorem dksX0_answers_0 : cX0_answers.data.toList.drop 0 = dktX0_answers_0 := by decide +kernel
theorem dX0_answers_0 : decode cX0_answers 0 = .ok (.aload_n 3, 1) := dk_45 (dk_at dksX0_answers_0 0 rfl rfl)
theorem dX0_answers_1 : decode cX0_answers 1 = .ok (.iconst 0, 1) := dk_3 (dk_at dksX0_answers_0 1 rfl rfl)
theorem dX0_answers_2 : decode cX0_answers 2 = .ok (.aload_n 0, 1) := dk_42 (dk_at dksX0_answers_0 2 rfl rfl)
theorem dX0_answers_3 : decode cX0_answers 3 = .ok (.iload_n 1, 1) := dk_27 (dk_at dksX0_answers_0 3 rfl rfl)
theorem dX0_answers_4 : decode cX0_answers 4 = .ok (.iload_n 2, 1) := dk_28 (dk_at dksX0_answers_0 4 rfl rfl)
theorem dX0_answers_5 : decode cX0_answers 5 = .ok (.invokevirtual 103, 3) := dk_182 0 103 (dk_at dksX0_answers_0 5 rfl rfl)
theorem dX0_answers_8 : decode cX0_answers 8 = .ok (.i2l, 1) := dk_133 (dk_at dksX0_answers_0 8 rfl rfl)
theorem dX0_answers_9 : decode cX0_answers 9 = .ok (.lastore, 1) := dk_80 (dk_at dksX0_answers_0 9 rfl rfl)
theorem dX0_answers_10 : decode cX0_answers 10 = .ok (.goto 11, 3) := dk_167 0 11 (dk_at dksX0_answers_0 10 rfl rfl)
theorem dX0_answers_13 : decode cX0_answers 13 = .ok (.astore 4, 2) := dk_58 4 (dk_at dksX0_answers_0 13 rfl rfl)
theorem dX0_answers_15 : decode cX0_answers 15 = .ok (.iconst 1, 1) := dk_4 (dk_at dksX0_answers_0 15 rfl rfl)
theorem dX0_answers_16 : decode cX0_answers 16 = .ok (.ireturn, 1) := dk_172 (dk_at dksX0_answers_0 16 rfl rfl)
theorem dX0_answers_17 : decode cX0_answers 17 = .ok (.astore 4, 2) := dk_58 4 (dk_at dksX0_answers_0 17 rfl rfl)
theorem dX0_answers_19 : decode cX0_answers 19 = .ok (.iconst 2, 1) := dk_5 (dk_at dksX0_answers_0 19 rfl rfl)
theorem dX0_answers_20 : decode cX0_answers 20 = .ok (.ireturn, 1) := dk_172 (dk_at dksX0_answers_0 20 rfl rfl)
theorem dX0_answers_21 : decode cX0_answers 21 = .ok (.iconst 0, 1) := dk_3 (dk_at dksX0_answers_0 21 rfl rfl)
theorem dX0_answers_22 : decode cX0_answers 22 = .ok (.ireturn, 1) := dk_172 (dk_at dksX0_answers_0 22 rfl rfl)
abbrev cX0_takenBack : ByteArray := method_31_code
def yX0_takenBack : MethodName := ⟨RX0, "takenBack", "(LLogGrammar;I[J)I"⟩
def dkwX0_takenBack_0 : List UInt8 := [44, 3, 42, 27, 182, 0, 106, 133, 80, 167, 0, 6, 78, 4, 172, 3, 172]
abbrev dktX0_takenBack_0 : List UInt8 := dkwX0_takenBack_0 ++ []
theorem dksX0_takenBack_0 : cX0_takenBack.data.toList.drop 0 = dktX0_takenBack_0 := by decide +kernel
theorem dX0_takenBack_0 : decode cX0_takenBack 0 = .ok (.aload_n 2, 1) := dk_44 (dk_at dksX0_takenBack_0 0 rfl rfl)
theorem dX0_takenBack_1 : decode cX0_takenBack 1 = .ok (.iconst 0, 1) := dk_3 (dk_at dksX0_takenBack_0 1 rfl rfl)
theorem dX0_takenBack_2 : decode cX0_takenBack 2 = .ok (.aload_n 0, 1) := dk_42 (dk_at dksX0_takenBack_0 2 rfl rfl)
theorem dX0_takenBack_3 : decode cX0_takenBack 3 = .ok (.iload_n 1, 1) := dk_27 (dk_at dksX0_takenBack_0 3 rfl rfl)
theorem dX0_takenBack_4 : decode cX0_takenBack 4 = .ok (.invokevirtual 106, 3) := dk_182 0 106 (dk_at dksX0_takenBack_0 4 rfl rfl)
theorem dX0_takenBack_7 : decode cX0_takenBack 7 = .ok (.i2l, 1) := dk_133 (dk_at dksX0_takenBack_0 7 rfl rfl)
theorem dX0_takenBack_8 : decode cX0_takenBack 8 = .ok (.lastore, 1) := dk_80 (dk_at dksX0_takenBack_0 8 rfl rfl)
theorem dX0_takenBack_9 : decode cX0_takenBack 9 = .ok (.goto 6, 3) := dk_167 0 6 (dk_at dksX0_takenBack_0 9 rfl rfl)
theorem dX0_takenBack_12 : decode cX0_takenBack 12 = .ok (.astore_n 3, 1) := dk_78 (dk_at dksX0_takenBack_0 12 rfl rfl)
theorem dX0_takenBack_13 : decode cX0_takenBack 13 = .ok (.iconst 1, 1) := dk_4 (dk_at dksX0_takenBack_0 13 rfl rfl)
theorem dX0_takenBack_14 : decode cX0_takenBack 14 = .ok (.ireturn, 1) := dk_172 (dk_at dksX0_takenBack_0 14 rfl rfl)
theorem dX0_takenBack_15 : decode cX0_takenBack 15 = .ok (.iconst 0, 1) := dk_3 (dk_at dksX0_takenBack_0 15 rfl rfl)
theorem dX0_takenBack_16 : decode cX0_takenBack 16 = .ok (.ireturn, 1) := dk_172 (dk_at dksX0_takenBack_0 16 rfl rfl)
abbrev cX0_back : ByteArray := method_32_code
def yX0_back : MethodName := ⟨RX0, "back", "(LLogGrammar;I[J)I"⟩
def dkwX0_back_0 : List UInt8 := [44, 3, 42, 27, 182, 0, 109, 133, 80, 167, 0, 6, 78, 4, 172, 3, 172]
abbrev dktX0_back_0 : List UInt8 := dkwX0_back_0 ++ []
theorem dksX0_back_0 : cX0_back.data.toList.drop 0 = dktX0_back_0 := by decide +kernel
theorem dX0_back_0 : decode cX0_back 0 = .ok (.aload_n 2, 1) := dk_44 (dk_at dksX0_back_0 0 rfl rfl)
theorem dX0_back_1 : decode cX0_back 1 = .ok (.iconst 0, 1) := dk_3 (dk_at dksX0_back_0 1 rfl rfl)
theorem dX0_back_2 : decode cX0_back 2 = .ok (.aload_n 0, 1) := dk_42 (dk_at dksX0_back_0 2 rfl rfl)
theorem dX0_back_3 : decode cX0_back 3 = .ok (.iload_n 1, 1) := dk_27 (dk_at dksX0_back_0 3 rfl rfl)
theorem dX0_back_4 : decode cX0_back 4 = .ok (.invokevirtual 109, 3) := dk_182 0 109 (dk_at dksX0_back_0 4 rfl rfl)
theorem dX0_back_7 : decode cX0_back 7 = .ok (.i2l, 1) := dk_133 (dk_at dksX0_back_0 7 rfl rfl)
theorem dX0_back_8 : decode cX0_back 8 = .ok (.lastore, 1) := dk_80 (dk_at dksX0_back_0 8 rfl rfl)
theorem dX0_back_9 : decode cX0_back 9 = .ok (.goto 6, 3) := dk_167 0 6 (dk_at dksX0_back_0 9 rfl rfl)
theorem dX0_back_12 : decode cX0_back 12 = .ok (.astore_n 3, 1) := dk_78 (dk_at dksX0_back_0 12 rfl rfl)
theorem dX0_back_13 : decode cX0_back 13 = .ok (.iconst 1, 1) := dk_4 (dk_at dksX0_back_0 13 rfl rfl)
theorem dX0_back_14 : decode cX0_back 14 = .ok (.ireturn, 1) := dk_172 (dk_at dksX0_back_0 14 rfl rfl)
theorem dX0_back_15 : decode cX0_back 15 = .ok (.iconst 0, 1) := dk_3 (dk_at dksX0_back_0 15 rfl rfl)
theorem dX0_back_16 : decode cX0_back 16 = .ok (.ireturn, 1) := dk_172 (dk_at dksX0_back_0 16 rfl rfl)
abbrev cX0_ahead : ByteArray := method_33_code
def yX0_ahead : MethodName := ⟨RX0, "ahead", "(LLogGrammar;I[J)I"⟩
def dkwX0_ahead_0 : List UInt8 := [44, 3, 42, 27, 182, 0, 112, 133, 80, 167, 0, 6, 78, 4, 172, 3, 172]
abbrev dktX0_ahead_0 : List UInt8 := dkwX0_ahead_0 ++ []
theorem dksX0_ahead_0 : cX0_ahead.data.toList.drop 0 = dktX0_ahead_0 := by decide +kernel
theorem dX0_ahead_0 : decode cX0_ahead 0 = .ok (.aload_n 2, 1) := dk_44 (dk_at dksX0_ahead_0 0 rfl rfl)
theorem dX0_ahead_1 : decode cX0_ahead 1 = .ok (.iconst 0, 1) := dk_3 (dk_at dksX0_ahead_0 1 rfl rfl)
theorem dX0_ahead_2 : decode cX0_ahead 2 = .ok (.aload_n 0, 1) := dk_42 (dk_at dksX0_ahead_0 2 rfl rfl)
theorem dX0_ahead_3 : decode cX0_ahead 3 = .ok (.iload_n 1, 1) := dk_27 (dk_at dksX0_ahead_0 3 rfl rfl)
theorem dX0_ahead_4 : decode cX0_ahead 4 = .ok (.invokevirtual 112, 3) := dk_182 0 112 (dk_at dksX0_ahead_0 4 rfl rfl)
theorem dX0_ahead_7 : decode cX0_ahead 7 = .ok (.i2l, 1) := dk_133 (dk_at dksX0_ahead_0 7 rfl rfl)
theorem dX0_ahead_8 : decode cX0_ahead 8 = .ok (.lastore, 1) := dk_80 (dk_at dksX0_ahead_0 8 rfl rfl)
theorem dX0_ahead_9 : decode cX0_ahead 9 = .ok (.goto 6, 3) := dk_167 0 6 (dk_at dksX0_ahead_0 9 rfl rfl)
theorem dX0_ahead_12 : decode cX0_ahead 12 = .ok (.astore_n 3, 1) := dk_78 (dk_at dksX0_ahead_0 12 rfl rfl)
theorem dX0_ahead_13 : decode cX0_ahead 13 = .ok (.iconst 1, 1) := dk_4 (dk_at dksX0_ahead_0 13 rfl rfl)
theorem dX0_ahead_14 : decode cX0_ahead 14 = .ok (.ireturn, 1) := dk_172 (dk_at dksX0_ahead_0 14 rfl rfl)
theorem dX0_ahead_15 : decode cX0_ahead 15 = .ok (.iconst 0, 1) := dk_3 (dk_at dksX0_ahead_0 15 rfl rfl)
theorem dX0_ahead_16 : decode cX0_ahead 16 = .ok (.ireturn, 1) := dk_172 (dk_at dksX0_ahead_0 16 rfl rfl)
abbrev cX0_overOrders : ByteArray := method_34_code
def yX0_overOrders : MethodName := ⟨RX0, "overOrders", "(LLogGrammar;III[J)I"⟩
def dkwX0_overOrders_1 : List UInt8 := [58, 5, 6, 172, 3, 172]
abbrev dktX0_overOrders_1 : List UInt8 := dkwX0_overOrders_1 ++ []
def dkwX0_overOrders_0 : List UInt8 := [25, 4, 3, 42, 27, 28, 29, 182, 0, 115, 133, 80, 167, 0, 15, 58, 5, 4, 172, 58, 5, 5, 172]
abbrev dktX0_overOrders_0 : List UInt8 := dkwX0_overOrders_0 ++ dktX0_overOrders_1
theorem dksX0_overOrders_0 : cX0_overOrders.data.toList.drop 0 = dktX0_overOrders_0 := by decide +kernel
theorem dksX0_overOrders_1 : cX0_overOrders.data.toList.drop 23 = dktX0_overOrders_1 := dk_seg dksX0_overOrders_0 23 rfl rfl
theorem dX0_overOrders_0 : decode cX0_overOrders 0 = .ok (.aload 4, 2) := dk_25 4 (dk_at dksX0_overOrders_0 0 rfl rfl)
theorem dX0_overOrders_2 : decode cX0_overOrders 2 = .ok (.iconst 0, 1) := dk_3 (dk_at dksX0_overOrders_0 2 rfl rfl)
theorem dX0_overOrders_3 : decode cX0_overOrders 3 = .ok (.aload_n 0, 1) := dk_42 (dk_at dksX0_overOrders_0 3 rfl rfl)
theorem dX0_overOrders_4 : decode cX0_overOrders 4 = .ok (.iload_n 1, 1) := dk_27 (dk_at dksX0_overOrders_0 4 rfl rfl)
theorem dX0_overOrders_5 : decode cX0_overOrders 5 = .ok (.iload_n 2, 1) := dk_28 (dk_at dksX0_overOrders_0 5 rfl rfl)
theorem dX0_overOrders_6 : decode cX0_overOrders 6 = .ok (.iload_n 3, 1) := dk_29 (dk_at dksX0_overOrders_0 6 rfl rfl)
theorem dX0_overOrders_7 : decode cX0_overOrders 7 = .ok (.invokevirtual 115, 3) := dk_182 0 115 (dk_at dksX0_overOrders_0 7 rfl rfl)
theorem dX0_overOrders_10 : decode cX0_overOrders 10 = .ok (.i2l, 1) := dk_133 (dk_at dksX0_overOrders_0 10 rfl rfl)
theorem dX0_overOrders_11 : decode cX0_overOrders 11 = .ok (.lastore, 1) := dk_80 (dk_at dksX0_overOrders_0 11 rfl rfl)
theorem dX0_overOrders_12 : decode cX0_overOrders 12 = .ok (.goto 15, 3) := dk_167 0 15 (dk_at dksX0_overOrders_0 12 rfl rfl)
theorem dX0_overOrders_15 : decode cX0_overOrders 15 = .ok (.astore 5, 2) := dk_58 5 (dk_at dksX0_overOrders_0 15 rfl rfl)
theorem dX0_overOrders_17 : decode cX0_overOrders 17 = .ok (.iconst 1, 1) := dk_4 (dk_at dksX0_overOrders_0 17 rfl rfl)
theorem dX0_overOrders_18 : decode cX0_overOrders 18 = .ok (.ireturn, 1) := dk_172 (dk_at dksX0_overOrders_0 18 rfl rfl)
theorem dX0_overOrders_19 : decode cX0_overOrders 19 = .ok (.astore 5, 2) := dk_58 5 (dk_at dksX0_overOrders_0 19 rfl rfl)
theorem dX0_overOrders_21 : decode cX0_overOrders 21 = .ok (.iconst 2, 1) := dk_5 (dk_at dksX0_overOrders_0 21 rfl rfl)
theorem dX0_overOrders_22 : decode cX0_overOrders 22 = .ok (.ireturn, 1) := dk_172 (dk_at dksX0_overOrders_0 22 rfl rfl)
theorem dX0_overOrders_23 : decode cX0_overOrders 23 = .ok (.astore 5, 2) := dk_58 5 (dk_at dksX0_overOrders_1 0 rfl rfl)
theorem dX0_overOrders_25 : decode cX0_overOrders 25 = .ok (.iconst 3, 1) := dk_6 (dk_at dksX0_overOrders_1 2 rfl rfl)
theorem dX0_overOrders_26 : decode cX0_overOrders 26 = .ok (.ireturn, 1) := dk_172 (dk_at dksX0_overOrders_1 3 rfl rfl)
theorem dX0_overOrders_27 : decode cX0_overOrders 27 = .ok (.iconst 0, 1) := dk_3 (dk_at dksX0_overOrders_1 4 rfl rfl)
theorem dX0_overOrders_28 : decode cX0_overOrders 28 = .ok (.ireturn, 1) := dk_172 (dk_at dksX0_overOrders_1 5 rfl rfl)
abbrev cX0_explanation : ByteArray := method_35_code
def yX0_explanation : MethodName := ⟨RX0, "explanation", "(LLogGrammar;II[J)I"⟩
def dkwX0_explanation_0 : List UInt8 := [45, 3, 42, 27, 28, 182, 0, 118, 133, 80, 167, 0, 11, 58, 4, 4, 172, 58, 4, 5, 172, 3, 172]
abbrev dktX0_explanation_0 : List UInt8 := dkwX0_explanation_0 ++ []
theorem dksX0_explanation_0 : cX0_explanation.data.toList.drop 0 = dktX0_explanation_0 := by decide +kernel
theorem dX0_explanation_0 : decode cX0_explanation 0 = .ok (.aload_n 3, 1) := dk_45 (dk_at dksX0_explanation_0 0 rfl rfl)
theorem dX0_explanation_1 : decode cX0_explanation 1 = .ok (.iconst 0, 1) := dk_3 (dk_at dksX0_explanation_0 1 rfl rfl)
theorem dX0_explanation_2 : decode cX0_explanation 2 = .ok (.aload_n 0, 1) := dk_42 (dk_at dksX0_explanation_0 2 rfl rfl)
theorem dX0_explanation_3 : decode cX0_explanation 3 = .ok (.iload_n 1, 1) := dk_27 (dk_at dksX0_explanation_0 3 rfl rfl)
theorem dX0_explanation_4 : decode cX0_explanation 4 = .ok (.iload_n 2, 1) := dk_28 (dk_at dksX0_explanation_0 4 rfl rfl)
theorem dX0_explanation_5 : decode cX0_explanation 5 = .ok (.invokevirtual 118, 3) := dk_182 0 118 (dk_at dksX0_explanation_0 5 rfl rfl)
theorem dX0_explanation_8 : decode cX0_explanation 8 = .ok (.i2l, 1) := dk_133 (dk_at dksX0_explanation_0 8 rfl rfl)
theorem dX0_explanation_9 : decode cX0_explanation 9 = .ok (.lastore, 1) := dk_80 (dk_at dksX0_explanation_0 9 rfl rfl)
theorem dX0_explanation_10 : decode cX0_explanation 10 = .ok (.goto 11, 3) := dk_167 0 11 (dk_at dksX0_explanation_0 10 rfl rfl)
theorem dX0_explanation_13 : decode cX0_explanation 13 = .ok (.astore 4, 2) := dk_58 4 (dk_at dksX0_explanation_0 13 rfl rfl)
theorem dX0_explanation_15 : decode cX0_explanation 15 = .ok (.iconst 1, 1) := dk_4 (dk_at dksX0_explanation_0 15 rfl rfl)
theorem dX0_explanation_16 : decode cX0_explanation 16 = .ok (.ireturn, 1) := dk_172 (dk_at dksX0_explanation_0 16 rfl rfl)
theorem dX0_explanation_17 : decode cX0_explanation 17 = .ok (.astore 4, 2) := dk_58 4 (dk_at dksX0_explanation_0 17 rfl rfl)
theorem dX0_explanation_19 : decode cX0_explanation 19 = .ok (.iconst 2, 1) := dk_5 (dk_at dksX0_explanation_0 19 rfl rfl)
theorem dX0_explanation_20 : decode cX0_explanation 20 = .ok (.ireturn, 1) := dk_172 (dk_at dksX0_explanation_0 20 rfl rfl)
theorem dX0_explanation_21 : decode cX0_explanation 21 = .ok (.iconst 0, 1) := dk_3 (dk_at dksX0_explanation_0 21 rfl rfl)
theorem dX0_explanation_22 : decode cX0_explanation 22 = .ok (.ireturn, 1) := dk_172 (dk_at dksX0_explanation_0 22 rfl rfl)
abbrev cX0_explainedBy : ByteArray := method_36_code
def yX0_explainedBy : MethodName := ⟨RX0, "explainedBy", "(LLogGrammar;III[J)I"⟩
def dkwX0_explainedBy_1 : List UInt8 := [172]
abbrev dktX0_explainedBy_1 : List UInt8 := dkwX0_explainedBy_1 ++ []
def dkwX0_explainedBy_0 : List UInt8 := [25, 4, 3, 42, 27, 28, 29, 182, 0, 121, 133, 80, 167, 0, 11, 58, 5, 4, 172, 58, 5, 5, 172, 3]
abbrev dktX0_explainedBy_0 : List UInt8 := dkwX0_explainedBy_0 ++ dktX0_explainedBy_1
theorem dksX0_explainedBy_0 : cX0_explainedBy.data.toList.drop 0 = dktX0_explainedBy_0 := by decide +kernel
theorem dksX0_explainedBy_1 : cX0_explainedBy.data.toList.drop 24 = dktX0_explainedBy_1 := dk_seg dksX0_explainedBy_0 24 rfl rfl
theorem dX0_explainedBy_0 : decode cX0_explainedBy 0 = .ok (.aload 4, 2) := dk_25 4 (dk_at dksX0_explainedBy_0 0 rfl rfl)
theorem dX0_explainedBy_2 : decode cX0_explainedBy 2 = .ok (.iconst 0, 1) := dk_3 (dk_at dksX0_explainedBy_0 2 rfl rfl)
theorem dX0_explainedBy_3 : decode cX0_explainedBy 3 = .ok (.aload_n 0, 1) := dk_42 (dk_at dksX0_explainedBy_0 3 rfl rfl)
theorem dX0_explainedBy_4 : decode cX0_explainedBy 4 = .ok (.iload_n 1, 1) := dk_27 (dk_at dksX0_explainedBy_0 4 rfl rfl)
theorem dX0_explainedBy_5 : decode cX0_explainedBy 5 = .ok (.iload_n 2, 1) := dk_28 (dk_at dksX0_explainedBy_0 5 rfl rfl)
theorem dX0_explainedBy_6 : decode cX0_explainedBy 6 = .ok (.iload_n 3, 1) := dk_29 (dk_at dksX0_explainedBy_0 6 rfl rfl)
theorem dX0_explainedBy_7 : decode cX0_explainedBy 7 = .ok (.invokevirtual 121, 3) := dk_182 0 121 (dk_at dksX0_explainedBy_0 7 rfl rfl)
theorem dX0_explainedBy_10 : decode cX0_explainedBy 10 = .ok (.i2l, 1) := dk_133 (dk_at dksX0_explainedBy_0 10 rfl rfl)
theorem dX0_explainedBy_11 : decode cX0_explainedBy 11 = .ok (.lastore, 1) := dk_80 (dk_at dksX0_explainedBy_0 11 rfl rfl)
theorem dX0_explainedBy_12 : decode cX0_explainedBy 12 = .ok (.goto 11, 3) := dk_167 0 11 (dk_at dksX0_explainedBy_0 12 rfl rfl)
theorem dX0_explainedBy_15 : decode cX0_explainedBy 15 = .ok (.astore 5, 2) := dk_58 5 (dk_at dksX0_explainedBy_0 15 rfl rfl)
theorem dX0_explainedBy_17 : decode cX0_explainedBy 17 = .ok (.iconst 1, 1) := dk_4 (dk_at dksX0_explainedBy_0 17 rfl rfl)
theorem dX0_explainedBy_18 : decode cX0_explainedBy 18 = .ok (.ireturn, 1) := dk_172 (dk_at dksX0_explainedBy_0 18 rfl rfl)
theorem dX0_explainedBy_19 : decode cX0_explainedBy 19 = .ok (.astore 5, 2) := dk_58 5 (dk_at dksX0_explainedBy_0 19 rfl rfl)
theorem dX0_explainedBy_21 : decode cX0_explainedBy 21 = .ok (.iconst 2, 1) := dk_5 (dk_at dksX0_explainedBy_0 21 rfl rfl)
theorem dX0_explainedBy_22 : decode cX0_explainedBy 22 = .ok (.ireturn, 1) := dk_172 (dk_at dksX0_explainedBy_0 22 rfl rfl)
theorem dX0_explainedBy_23 : decode cX0_explainedBy 23 = .ok (.iconst 0, 1) := dk_3 (dk_at dksX0_explainedBy_0 23 rfl rfl)
theorem dX0_explainedBy_24 : decode cX0_explainedBy 24 = .ok (.ireturn, 1) := dk_172 (dk_at dksX0_explainedBy_1 0 rfl rfl)
abbrev cX0_mend : ByteArray := method_37_code
def yX0_mend : MethodName := ⟨RX0, "mend", "(LLogGrammar;II[J)I"⟩
def dkwX0_mend_0 : List UInt8 := [45, 3, 42, 27, 28, 182, 0, 124, 133, 80, 167, 0, 11, 58, 4, 4, 172, 58, 4, 5, 172, 3, 172]
abbrev dktX0_mend_0 : List UInt8 := dkwX0_mend_0 ++ []
theorem dksX0_mend_0 : cX0_mend.data.toList.drop 0 = dktX0_mend_0 := by decide +kernel
theorem dX0_mend_0 : decode cX0_mend 0 = .ok (.aload_n 3, 1) := dk_45 (dk_at dksX0_mend_0 0 rfl rfl)
theorem dX0_mend_1 : decode cX0_mend 1 = .ok (.iconst 0, 1) := dk_3 (dk_at dksX0_mend_0 1 rfl rfl)
theorem dX0_mend_2 : decode cX0_mend 2 = .ok (.aload_n 0, 1) := dk_42 (dk_at dksX0_mend_0 2 rfl rfl)
theorem dX0_mend_3 : decode cX0_mend 3 = .ok (.iload_n 1, 1) := dk_27 (dk_at dksX0_mend_0 3 rfl rfl)
theorem dX0_mend_4 : decode cX0_mend 4 = .ok (.iload_n 2, 1) := dk_28 (dk_at dksX0_mend_0 4 rfl rfl)
theorem dX0_mend_5 : decode cX0_mend 5 = .ok (.invokevirtual 124, 3) := dk_182 0 124 (dk_at dksX0_mend_0 5 rfl rfl)
theorem dX0_mend_8 : decode cX0_mend 8 = .ok (.i2l, 1) := dk_133 (dk_at dksX0_mend_0 8 rfl rfl)
theorem dX0_mend_9 : decode cX0_mend 9 = .ok (.lastore, 1) := dk_80 (dk_at dksX0_mend_0 9 rfl rfl)
theorem dX0_mend_10 : decode cX0_mend 10 = .ok (.goto 11, 3) := dk_167 0 11 (dk_at dksX0_mend_0 10 rfl rfl)
theorem dX0_mend_13 : decode cX0_mend 13 = .ok (.astore 4, 2) := dk_58 4 (dk_at dksX0_mend_0 13 rfl rfl)
theorem dX0_mend_15 : decode cX0_mend 15 = .ok (.iconst 1, 1) := dk_4 (dk_at dksX0_mend_0 15 rfl rfl)
theorem dX0_mend_16 : decode cX0_mend 16 = .ok (.ireturn, 1) := dk_172 (dk_at dksX0_mend_0 16 rfl rfl)
theorem dX0_mend_17 : decode cX0_mend 17 = .ok (.astore 4, 2) := dk_58 4 (dk_at dksX0_mend_0 17 rfl rfl)
theorem dX0_mend_19 : decode cX0_mend 19 = .ok (.iconst 2, 1) := dk_5 (dk_at dksX0_mend_0 19 rfl rfl)
theorem dX0_mend_20 : decode cX0_mend 20 = .ok (.ireturn, 1) := dk_172 (dk_at dksX0_mend_0 20 rfl rfl)
theorem dX0_mend_21 : decode cX0_mend 21 = .ok (.iconst 0, 1) := dk_3 (dk_at dksX0_mend_0 21 rfl rfl)
theorem dX0_mend_22 : decode cX0_mend 22 = .ok (.ireturn, 1) := dk_172 (dk_at dksX0_mend_0 22 rfl rfl)
abbrev cX0_mendedBy : ByteArray := method_38_code
def yX0_mendedBy : MethodName := ⟨RX0, "mendedBy", "(LLogGrammar;III[J)I"⟩
def dkwX0_mendedBy_1 : List UInt8 := [172]
abbrev dktX0_mendedBy_1 : List UInt8 := dkwX0_mendedBy_1 ++ []
def dkwX0_mendedBy_0 : List UInt8 := [25, 4, 3, 42, 27, 28, 29, 182, 0, 127, 133, 80, 167, 0, 11, 58, 5, 4, 172, 58, 5, 5, 172, 3]
abbrev dktX0_mendedBy_0 : List UInt8 := dkwX0_mendedBy_0 ++ dktX0_mendedBy_1
theorem dksX0_mendedBy_0 : cX0_mendedBy.data.toList.drop 0 = dktX0_mendedBy_0 := by decide +kernel
theorem dksX0_mendedBy_1 : cX0_mendedBy.data.toList.drop 24 = dktX0_mendedBy_1 := dk_seg dksX0_mendedBy_0 24 rfl rfl
theorem dX0_mendedBy_0 : decode cX0_mendedBy 0 = .ok (.aload 4, 2) := dk_25 4 (dk_at dksX0_mendedBy_0 0 rfl rfl)
theorem dX0_mendedBy_2 : decode cX0_mendedBy 2 = .ok (.iconst 0, 1) := dk_3 (dk_at dksX0_mendedBy_0 2 rfl rfl)
theorem dX0_mendedBy_3 : decode cX0_mendedBy 3 = .ok (.aload_n 0, 1) := dk_42 (dk_at dksX0_mendedBy_0 3 rfl rfl)
theorem dX0_mendedBy_4 : decode cX0_mendedBy 4 = .ok (.iload_n 1, 1) := dk_27 (dk_at dksX0_mendedBy_0 4 rfl rfl)
theorem dX0_mendedBy_5 : decode cX0_mendedBy 5 = .ok (.iload_n 2, 1) := dk_28 (dk_at dksX0_mendedBy_0 5 rfl rfl)
theorem dX0_mendedBy_6 : decode cX0_mendedBy 6 = .ok (.iload_n 3, 1) := dk_29 (dk_at dksX0_mendedBy_0 6 rfl rfl)
theorem dX0_mendedBy_7 : decode cX0_mendedBy 7 = .ok (.invokevirtual 127, 3) := dk_182 0 127 (dk_at dksX0_mendedBy_0 7 rfl rfl)
theorem dX0_mendedBy_10 : decode cX0_mendedBy 10 = .ok (.i2l, 1) := dk_133 (dk_at dksX0_mendedBy_0 10 rfl rfl)
theorem dX0_mendedBy_11 : decode cX0_mendedBy 11 = .ok (.lastore, 1) := dk_80 (dk_at dksX0_mendedBy_0 11 rfl rfl)
theorem dX0_mendedBy_12 : decode cX0_mendedBy 12 = .ok (.goto 11, 3) := dk_167 0 11 (dk_at dksX0_mendedBy_0 12 rfl rfl)
theorem dX0_mendedBy_15 : decode cX0_mendedBy 15 = .ok (.astore 5, 2) := dk_58 5 (dk_at dksX0_mendedBy_0 15 rfl rfl)
theorem dX0_mendedBy_17 : decode cX0_mendedBy 17 = .ok (.iconst 1, 1) := dk_4 (dk_at dksX0_mendedBy_0 17 rfl rfl)
theorem dX0_mendedBy_18 : decode cX0_mendedBy 18 = .ok (.ireturn, 1) := dk_172 (dk_at dksX0_mendedBy_0 18 rfl rfl)
theorem dX0_mendedBy_19 : decode cX0_mendedBy 19 = .ok (.astore 5, 2) := dk_58 5 (dk_at dksX0_mendedBy_0 19 rfl rfl)
theorem dX0_mendedBy_21 : decode cX0_mendedBy 21 = .ok (.iconst 2, 1) := dk_5 (dk_at dksX0_mendedBy_0 21 rfl rfl)
theorem dX0_mendedBy_22 : decode cX0_mendedBy 22 = .ok (.ireturn, 1) := dk_172 (dk_at dksX0_mendedBy_0 22 rfl rfl)
theorem dX0_mendedBy_23 : decode cX0_mendedBy 23 = .ok (.iconst 0, 1) := dk_3 (dk_at dksX0_mendedBy_0 23 rfl rfl)
theorem dX0_mendedBy_24 : decode cX0_mendedBy 24 = .ok (.ireturn, 1) := dk_172 (dk_at dksX0_mendedBy_1 0 rfl rfl)
theorem q72 : (Jvm.Cond.initialized "LogGrammarLaw") ∈ lw_all := lw_g (lw_at lw_m1 0 rfl) rfl
theorem q110 : (Jvm.Cond.classLink "LogGrammarLaw" (8 : Nat) "LogGrammar") ∈ lw_all := lw_g (lw_at lw_m1 38 rfl) rfl
theorem q112 : (Jvm.Cond.methodLink "LogGrammarLaw" (130 : Nat) ({ cls := "LogGrammar", name := "<init>", desc := "()V" } : Jvm.MethodName)) ∈ lw_all := lw_g (lw_at lw_m1 40 rfl) rfl
theorem q286 : (Jvm.Cond.methodLink "LogGrammarLaw" (194 : Nat) ({ cls := "LogGrammar", name := "scrap", desc := "()I" } : Jvm.MethodName)) ∈ lw_all := lw_g (lw_at lw_m1 214 rfl) rfl
theorem q308 : (Jvm.Cond.methodLink "LogGrammarLaw" (202 : Nat) ({ cls := "LogGrammar", name := "events", desc := "()I" } : Jvm.MethodName)) ∈ lw_all := lw_g (lw_at lw_m1 236 rfl) rfl
theorem q312 : (Jvm.Cond.methodLink "LogGrammarLaw" (206 : Nat) ({ cls := "LogGrammar", name := "dropped", desc := "()I" } : Jvm.MethodName)) ∈ lw_all := lw_g (lw_at lw_m2 0 rfl) rfl
theorem q316 : (Jvm.Cond.methodLink "LogGrammarLaw" (210 : Nat) ({ cls := "LogGrammar", name := "present", desc := "()I" } : Jvm.MethodName)) ∈ lw_all := lw_g (lw_at lw_m2 4 rfl) rfl
theorem q320 : (Jvm.Cond.methodLink "LogGrammarLaw" (254 : Nat) ({ cls := "LogGrammar", name := "parts", desc := "()I" } : Jvm.MethodName)) ∈ lw_all := lw_g (lw_at lw_m2 8 rfl) rfl
theorem q401 : (Jvm.Cond.methodLink "LogGrammarLaw" (258 : Nat) ({ cls := "LogGrammar", name := "orders", desc := "()I" } : Jvm.MethodName)) ∈ lw_all := lw_g (lw_at lw_m2 89 rfl) rfl
theorem q613 : (Jvm.Cond.methodLink "LogGrammarLaw" (134 : Nat) ({ cls := "LogGrammarLaw", name := "setOffset", desc := "(LLogGrammar;II[J)I" } : Jvm.MethodName)) ∈ lw_all := lw_g (lw_at lw_m3 61 rfl) rfl
theorem q614 : (Jvm.Cond.static ({ cls := "LogGrammarLaw", name := "setOffset", desc := "(LLogGrammar;II[J)I" } : Jvm.MethodName)) ∈ lw_all := lw_g (lw_at lw_m3 62 rfl) rfl
theorem q615 : (Jvm.Cond.codeWith ({ cls := "LogGrammarLaw", name := "setOffset", desc := "(LLogGrammar;II[J)I" } : Jvm.MethodName) method_3_code (5 : Nat) (Option.some Jvm.ClassFile.FieldType.int) [((0 : Nat), (10 : Nat), (13 : Nat), (13 : Nat)), ((0 : Nat), (10 : Nat), (17 : Nat), (15 : Nat))]) ∈ lw_all := lw_g (lw_at lw_m3 63 rfl) rfl
theorem q616 : (Jvm.Cond.classLink "LogGrammarLaw" (13 : Nat) "java/lang/IndexOutOfBoundsException") ∈ lw_all := lw_g (lw_at lw_m3 64 rfl) rfl
theorem q693 : (Jvm.Cond.classLink "LogGrammarLaw" (15 : Nat) "java/lang/IllegalArgumentException") ∈ lw_all := lw_g (lw_at lw_m3 141 rfl) rfl
theorem q694 : (Jvm.Cond.methodLink "LogGrammarLaw" (7 : Nat) ({ cls := "LogGrammar", name := "setOffset", desc := "(II)I" } : Jvm.MethodName)) ∈ lw_all := lw_g (lw_at lw_m3 142 rfl) rfl
theorem q739 : (Jvm.Cond.methodLink "LogGrammarLaw" (143 : Nat) ({ cls := "LogGrammarLaw", name := "setPatience", desc := "(LLogGrammar;I[J)I" } : Jvm.MethodName)) ∈ lw_all := lw_g (lw_at lw_m3 187 rfl) rfl
theorem q740 : (Jvm.Cond.static ({ cls := "LogGrammarLaw", name := "setPatience", desc := "(LLogGrammar;I[J)I" } : Jvm.MethodName)) ∈ lw_all := lw_g (lw_at lw_m3 188 rfl) rfl
theorem q741 : (Jvm.Cond.codeWith ({ cls := "LogGrammarLaw", name := "setPatience", desc := "(LLogGrammar;I[J)I" } : Jvm.MethodName) method_4_code (4 : Nat) (Option.some Jvm.ClassFile.FieldType.int) [((0 : Nat), (9 : Nat), (12 : Nat), (15 : Nat))]) ∈ lw_all := lw_g (lw_at lw_m3 189 rfl) rfl
theorem q742 : (Jvm.Cond.methodLink "LogGrammarLaw" (17 : Nat) ({ cls := "LogGrammar", name := "setPatience", desc := "(I)I" } : Jvm.MethodName)) ∈ lw_all := lw_g (lw_at lw_m3 190 rfl) rfl
theorem q746 : (Jvm.Cond.methodLink "LogGrammarLaw" (147 : Nat) ({ cls := "LogGrammarLaw", name := "event", desc := "(LLogGrammar;IIIII[J)I" } : Jvm.MethodName)) ∈ lw_all := lw_g (lw_at lw_m3 194 rfl) rfl
theorem q747 : (Jvm.Cond.static ({ cls := "LogGrammarLaw", name := "event", desc := "(LLogGrammar;IIIII[J)I" } : Jvm.MethodName)) ∈ lw_all := lw_g (lw_at lw_m3 195 rfl) rfl
theorem q748 : (Jvm.Cond.codeWith ({ cls := "LogGrammarLaw", name := "event", desc := "(LLogGrammar;IIIII[J)I" } : Jvm.MethodName) method_5_code (8 : Nat) (Option.some Jvm.ClassFile.FieldType.int) [((0 : Nat), (16 : Nat), (19 : Nat), (13 : Nat)), ((0 : Nat), (16 : Nat), (23 : Nat), (15 : Nat)), ((0 : Nat), (16 : Nat), (27 : Nat), (25 : Nat))]) ∈ lw_all := lw_g (lw_at lw_m3 196 rfl) rfl
theorem q749 : (Jvm.Cond.classLink "LogGrammarLaw" (25 : Nat) "java/lang/IllegalStateException") ∈ lw_all := lw_g (lw_at lw_m3 197 rfl) rfl
theorem q750 : (Jvm.Cond.methodLink "LogGrammarLaw" (21 : Nat) ({ cls := "LogGrammar", name := "event", desc := "(IIIII)I" } : Jvm.MethodName)) ∈ lw_all := lw_g (lw_at lw_m3 198 rfl) rfl
theorem q1183 : (Jvm.Cond.methodLink "LogGrammarLaw" (151 : Nat) ({ cls := "LogGrammarLaw", name := "offer", desc := "(LLogGrammar;IIIII[J)I" } : Jvm.MethodName)) ∈ lw_all := lw_g (lw_at lw_m5 151 rfl) rfl
theorem q1184 : (Jvm.Cond.static ({ cls := "LogGrammarLaw", name := "offer", desc := "(LLogGrammar;IIIII[J)I" } : Jvm.MethodName)) ∈ lw_all := lw_g (lw_at lw_m5 152 rfl) rfl
theorem q1185 : (Jvm.Cond.codeWith ({ cls := "LogGrammarLaw", name := "offer", desc := "(LLogGrammar;IIIII[J)I" } : Jvm.MethodName) method_6_code (8 : Nat) (Option.some Jvm.ClassFile.FieldType.int) [((0 : Nat), (16 : Nat), (19 : Nat), (13 : Nat)), ((0 : Nat), (16 : Nat), (23 : Nat), (15 : Nat)), ((0 : Nat), (16 : Nat), (27 : Nat), (25 : Nat))]) ∈ lw_all := lw_g (lw_at lw_m5 153 rfl) rfl
theorem q1186 : (Jvm.Cond.methodLink "LogGrammarLaw" (27 : Nat) ({ cls := "LogGrammar", name := "offer", desc := "(IIIII)I" } : Jvm.MethodName)) ∈ lw_all := lw_g (lw_at lw_m5 154 rfl) rfl
theorem q1223 : (Jvm.Cond.methodLink "LogGrammarLaw" (154 : Nat) ({ cls := "LogGrammarLaw", name := "close", desc := "(LLogGrammar;[J)I" } : Jvm.MethodName)) ∈ lw_all := lw_g (lw_at lw_m5 191 rfl) rfl
theorem q1224 : (Jvm.Cond.static ({ cls := "LogGrammarLaw", name := "close", desc := "(LLogGrammar;[J)I" } : Jvm.MethodName)) ∈ lw_all := lw_g (lw_at lw_m5 192 rfl) rfl
theorem q1225 : (Jvm.Cond.codeWith ({ cls := "LogGrammarLaw", name := "close", desc := "(LLogGrammar;[J)I" } : Jvm.MethodName) method_7_code (3 : Nat) (Option.some Jvm.ClassFile.FieldType.int) [((0 : Nat), (8 : Nat), (11 : Nat), (25 : Nat))]) ∈ lw_all := lw_g (lw_at lw_m5 193 rfl) rfl
theorem q1226 : (Jvm.Cond.methodLink "LogGrammarLaw" (30 : Nat) ({ cls := "LogGrammar", name := "close", desc := "()I" } : Jvm.MethodName)) ∈ lw_all := lw_g (lw_at lw_m5 194 rfl) rfl
theorem q1234 : (Jvm.Cond.methodLink "LogGrammarLaw" (158 : Nat) ({ cls := "LogGrammarLaw", name := "kindIs", desc := "(LLogGrammar;I[J)I" } : Jvm.MethodName)) ∈ lw_all := lw_g (lw_at lw_m5 202 rfl) rfl
theorem q1235 : (Jvm.Cond.static ({ cls := "LogGrammarLaw", name := "kindIs", desc := "(LLogGrammar;I[J)I" } : Jvm.MethodName)) ∈ lw_all := lw_g (lw_at lw_m5 203 rfl) rfl
theorem q1236 : (Jvm.Cond.codeWith ({ cls := "LogGrammarLaw", name := "kindIs", desc := "(LLogGrammar;I[J)I" } : Jvm.MethodName) method_8_code (4 : Nat) (Option.some Jvm.ClassFile.FieldType.int) [((0 : Nat), (9 : Nat), (12 : Nat), (15 : Nat)), ((0 : Nat), (9 : Nat), (15 : Nat), (25 : Nat))]) ∈ lw_all := lw_g (lw_at lw_m5 204 rfl) rfl
theorem q1237 : (Jvm.Cond.methodLink "LogGrammarLaw" (34 : Nat) ({ cls := "LogGrammar", name := "kindIs", desc := "(I)I" } : Jvm.MethodName)) ∈ lw_all := lw_g (lw_at lw_m5 205 rfl) rfl
theorem q1282 : (Jvm.Cond.methodLink "LogGrammarLaw" (161 : Nat) ({ cls := "LogGrammarLaw", name := "valueIs", desc := "(LLogGrammar;II[J)I" } : Jvm.MethodName)) ∈ lw_all := lw_g (lw_at lw_m6 10 rfl) rfl
theorem q1283 : (Jvm.Cond.static ({ cls := "LogGrammarLaw", name := "valueIs", desc := "(LLogGrammar;II[J)I" } : Jvm.MethodName)) ∈ lw_all := lw_g (lw_at lw_m6 11 rfl) rfl
theorem q1284 : (Jvm.Cond.codeWith ({ cls := "LogGrammarLaw", name := "valueIs", desc := "(LLogGrammar;II[J)I" } : Jvm.MethodName) method_9_code (5 : Nat) (Option.some Jvm.ClassFile.FieldType.int) [((0 : Nat), (10 : Nat), (13 : Nat), (15 : Nat)), ((0 : Nat), (10 : Nat), (17 : Nat), (25 : Nat))]) ∈ lw_all := lw_g (lw_at lw_m6 12 rfl) rfl
theorem q1285 : (Jvm.Cond.methodLink "LogGrammarLaw" (37 : Nat) ({ cls := "LogGrammar", name := "valueIs", desc := "(II)I" } : Jvm.MethodName)) ∈ lw_all := lw_g (lw_at lw_m6 13 rfl) rfl
theorem q1291 : (Jvm.Cond.methodLink "LogGrammarLaw" (164 : Nat) ({ cls := "LogGrammarLaw", name := "not", desc := "(LLogGrammar;[J)I" } : Jvm.MethodName)) ∈ lw_all := lw_g (lw_at lw_m6 19 rfl) rfl
theorem q1292 : (Jvm.Cond.static ({ cls := "LogGrammarLaw", name := "not", desc := "(LLogGrammar;[J)I" } : Jvm.MethodName)) ∈ lw_all := lw_g (lw_at lw_m6 20 rfl) rfl
theorem q1293 : (Jvm.Cond.codeWith ({ cls := "LogGrammarLaw", name := "not", desc := "(LLogGrammar;[J)I" } : Jvm.MethodName) method_10_code (3 : Nat) (Option.some Jvm.ClassFile.FieldType.int) [((0 : Nat), (8 : Nat), (11 : Nat), (25 : Nat))]) ∈ lw_all := lw_g (lw_at lw_m6 21 rfl) rfl
theorem q1294 : (Jvm.Cond.methodLink "LogGrammarLaw" (40 : Nat) ({ cls := "LogGrammar", name := "not", desc := "()I" } : Jvm.MethodName)) ∈ lw_all := lw_g (lw_at lw_m6 22 rfl) rfl
theorem q1306 : (Jvm.Cond.methodLink "LogGrammarLaw" (167 : Nat) ({ cls := "LogGrammarLaw", name := "both", desc := "(LLogGrammar;[J)I" } : Jvm.MethodName)) ∈ lw_all := lw_g (lw_at lw_m6 34 rfl) rfl
theorem q1307 : (Jvm.Cond.static ({ cls := "LogGrammarLaw", name := "both", desc := "(LLogGrammar;[J)I" } : Jvm.MethodName)) ∈ lw_all := lw_g (lw_at lw_m6 35 rfl) rfl
theorem q1308 : (Jvm.Cond.codeWith ({ cls := "LogGrammarLaw", name := "both", desc := "(LLogGrammar;[J)I" } : Jvm.MethodName) method_11_code (3 : Nat) (Option.some Jvm.ClassFile.FieldType.int) [((0 : Nat), (8 : Nat), (11 : Nat), (25 : Nat))]) ∈ lw_all := lw_g (lw_at lw_m6 36 rfl) rfl
theorem q1309 : (Jvm.Cond.methodLink "LogGrammarLaw" (43 : Nat) ({ cls := "LogGrammar", name := "both", desc := "()I" } : Jvm.MethodName)) ∈ lw_all := lw_g (lw_at lw_m6 37 rfl) rfl
theorem q1315 : (Jvm.Cond.methodLink "LogGrammarLaw" (170 : Nat) ({ cls := "LogGrammarLaw", name := "either", desc := "(LLogGrammar;[J)I" } : Jvm.MethodName)) ∈ lw_all := lw_g (lw_at lw_m6 43 rfl) rfl
theorem q1316 : (Jvm.Cond.static ({ cls := "LogGrammarLaw", name := "either", desc := "(LLogGrammar;[J)I" } : Jvm.MethodName)) ∈ lw_all := lw_g (lw_at lw_m6 44 rfl) rfl
theorem q1317 : (Jvm.Cond.codeWith ({ cls := "LogGrammarLaw", name := "either", desc := "(LLogGrammar;[J)I" } : Jvm.MethodName) method_12_code (3 : Nat) (Option.some Jvm.ClassFile.FieldType.int) [((0 : Nat), (8 : Nat), (11 : Nat), (25 : Nat))]) ∈ lw_all := lw_g (lw_at lw_m6 45 rfl) rfl
theorem q1318 : (Jvm.Cond.methodLink "LogGrammarLaw" (46 : Nat) ({ cls := "LogGrammar", name := "either", desc := "()I" } : Jvm.MethodName)) ∈ lw_all := lw_g (lw_at lw_m6 46 rfl) rfl
theorem q1324 : (Jvm.Cond.methodLink "LogGrammarLaw" (173 : Nat) ({ cls := "LogGrammarLaw", name := "before", desc := "(LLogGrammar;[J)I" } : Jvm.MethodName)) ∈ lw_all := lw_g (lw_at lw_m6 52 rfl) rfl
theorem q1325 : (Jvm.Cond.static ({ cls := "LogGrammarLaw", name := "before", desc := "(LLogGrammar;[J)I" } : Jvm.MethodName)) ∈ lw_all := lw_g (lw_at lw_m6 53 rfl) rfl
theorem q1326 : (Jvm.Cond.codeWith ({ cls := "LogGrammarLaw", name := "before", desc := "(LLogGrammar;[J)I" } : Jvm.MethodName) method_13_code (3 : Nat) (Option.some Jvm.ClassFile.FieldType.int) [((0 : Nat), (8 : Nat), (11 : Nat), (25 : Nat))]) ∈ lw_all := lw_g (lw_at lw_m6 54 rfl) rfl
theorem q1327 : (Jvm.Cond.methodLink "LogGrammarLaw" (49 : Nat) ({ cls := "LogGrammar", name := "before", desc := "()I" } : Jvm.MethodName)) ∈ lw_all := lw_g (lw_at lw_m6 55 rfl) rfl
theorem q1333 : (Jvm.Cond.methodLink "LogGrammarLaw" (176 : Nat) ({ cls := "LogGrammarLaw", name := "since", desc := "(LLogGrammar;I[J)I" } : Jvm.MethodName)) ∈ lw_all := lw_g (lw_at lw_m6 61 rfl) rfl
theorem q1334 : (Jvm.Cond.static ({ cls := "LogGrammarLaw", name := "since", desc := "(LLogGrammar;I[J)I" } : Jvm.MethodName)) ∈ lw_all := lw_g (lw_at lw_m6 62 rfl) rfl
theorem q1335 : (Jvm.Cond.codeWith ({ cls := "LogGrammarLaw", name := "since", desc := "(LLogGrammar;I[J)I" } : Jvm.MethodName) method_14_code (4 : Nat) (Option.some Jvm.ClassFile.FieldType.int) [((0 : Nat), (9 : Nat), (12 : Nat), (15 : Nat)), ((0 : Nat), (9 : Nat), (15 : Nat), (25 : Nat))]) ∈ lw_all := lw_g (lw_at lw_m6 63 rfl) rfl
theorem q1336 : (Jvm.Cond.methodLink "LogGrammarLaw" (52 : Nat) ({ cls := "LogGrammar", name := "since", desc := "(I)I" } : Jvm.MethodName)) ∈ lw_all := lw_g (lw_at lw_m6 64 rfl) rfl
theorem q1345 : (Jvm.Cond.methodLink "LogGrammarLaw" (179 : Nat) ({ cls := "LogGrammarLaw", name := "once", desc := "(LLogGrammar;I[J)I" } : Jvm.MethodName)) ∈ lw_all := lw_g (lw_at lw_m6 73 rfl) rfl
theorem q1346 : (Jvm.Cond.static ({ cls := "LogGrammarLaw", name := "once", desc := "(LLogGrammar;I[J)I" } : Jvm.MethodName)) ∈ lw_all := lw_g (lw_at lw_m6 74 rfl) rfl
theorem q1347 : (Jvm.Cond.codeWith ({ cls := "LogGrammarLaw", name := "once", desc := "(LLogGrammar;I[J)I" } : Jvm.MethodName) method_15_code (4 : Nat) (Option.some Jvm.ClassFile.FieldType.int) [((0 : Nat), (9 : Nat), (12 : Nat), (15 : Nat)), ((0 : Nat), (9 : Nat), (15 : Nat), (25 : Nat))]) ∈ lw_all := lw_g (lw_at lw_m6 75 rfl) rfl
theorem q1348 : (Jvm.Cond.methodLink "LogGrammarLaw" (55 : Nat) ({ cls := "LogGrammar", name := "once", desc := "(I)I" } : Jvm.MethodName)) ∈ lw_all := lw_g (lw_at lw_m6 76 rfl) rfl
theorem q1353 : (Jvm.Cond.methodLink "LogGrammarLaw" (182 : Nat) ({ cls := "LogGrammarLaw", name := "next", desc := "(LLogGrammar;[J)I" } : Jvm.MethodName)) ∈ lw_all := lw_g (lw_at lw_m6 81 rfl) rfl
theorem q1354 : (Jvm.Cond.static ({ cls := "LogGrammarLaw", name := "next", desc := "(LLogGrammar;[J)I" } : Jvm.MethodName)) ∈ lw_all := lw_g (lw_at lw_m6 82 rfl) rfl
theorem q1355 : (Jvm.Cond.codeWith ({ cls := "LogGrammarLaw", name := "next", desc := "(LLogGrammar;[J)I" } : Jvm.MethodName) method_16_code (3 : Nat) (Option.some Jvm.ClassFile.FieldType.int) [((0 : Nat), (8 : Nat), (11 : Nat), (25 : Nat))]) ∈ lw_all := lw_g (lw_at lw_m6 83 rfl) rfl
theorem q1356 : (Jvm.Cond.methodLink "LogGrammarLaw" (58 : Nat) ({ cls := "LogGrammar", name := "next", desc := "()I" } : Jvm.MethodName)) ∈ lw_all := lw_g (lw_at lw_m6 84 rfl) rfl
theorem q1362 : (Jvm.Cond.methodLink "LogGrammarLaw" (185 : Nat) ({ cls := "LogGrammarLaw", name := "until", desc := "(LLogGrammar;I[J)I" } : Jvm.MethodName)) ∈ lw_all := lw_g (lw_at lw_m6 90 rfl) rfl
theorem q1363 : (Jvm.Cond.static ({ cls := "LogGrammarLaw", name := "until", desc := "(LLogGrammar;I[J)I" } : Jvm.MethodName)) ∈ lw_all := lw_g (lw_at lw_m6 91 rfl) rfl
theorem q1364 : (Jvm.Cond.codeWith ({ cls := "LogGrammarLaw", name := "until", desc := "(LLogGrammar;I[J)I" } : Jvm.MethodName) method_17_code (4 : Nat) (Option.some Jvm.ClassFile.FieldType.int) [((0 : Nat), (9 : Nat), (12 : Nat), (15 : Nat)), ((0 : Nat), (9 : Nat), (15 : Nat), (25 : Nat))]) ∈ lw_all := lw_g (lw_at lw_m6 92 rfl) rfl
theorem q1365 : (Jvm.Cond.methodLink "LogGrammarLaw" (61 : Nat) ({ cls := "LogGrammar", name := "until", desc := "(I)I" } : Jvm.MethodName)) ∈ lw_all := lw_g (lw_at lw_m6 93 rfl) rfl
theorem q1371 : (Jvm.Cond.methodLink "LogGrammarLaw" (188 : Nat) ({ cls := "LogGrammarLaw", name := "soon", desc := "(LLogGrammar;I[J)I" } : Jvm.MethodName)) ∈ lw_all := lw_g (lw_at lw_m6 99 rfl) rfl
theorem q1372 : (Jvm.Cond.static ({ cls := "LogGrammarLaw", name := "soon", desc := "(LLogGrammar;I[J)I" } : Jvm.MethodName)) ∈ lw_all := lw_g (lw_at lw_m6 100 rfl) rfl
theorem q1373 : (Jvm.Cond.codeWith ({ cls := "LogGrammarLaw", name := "soon", desc := "(LLogGrammar;I[J)I" } : Jvm.MethodName) method_18_code (4 : Nat) (Option.some Jvm.ClassFile.FieldType.int) [((0 : Nat), (9 : Nat), (12 : Nat), (15 : Nat)), ((0 : Nat), (9 : Nat), (15 : Nat), (25 : Nat))]) ∈ lw_all := lw_g (lw_at lw_m6 101 rfl) rfl
theorem q1374 : (Jvm.Cond.methodLink "LogGrammarLaw" (64 : Nat) ({ cls := "LogGrammar", name := "soon", desc := "(I)I" } : Jvm.MethodName)) ∈ lw_all := lw_g (lw_at lw_m6 102 rfl) rfl
theorem q1379 : (Jvm.Cond.methodLink "LogGrammarLaw" (191 : Nat) ({ cls := "LogGrammarLaw", name := "many", desc := "(LLogGrammar;II[J)I" } : Jvm.MethodName)) ∈ lw_all := lw_g (lw_at lw_m6 107 rfl) rfl
theorem q1380 : (Jvm.Cond.static ({ cls := "LogGrammarLaw", name := "many", desc := "(LLogGrammar;II[J)I" } : Jvm.MethodName)) ∈ lw_all := lw_g (lw_at lw_m6 108 rfl) rfl
theorem q1381 : (Jvm.Cond.codeWith ({ cls := "LogGrammarLaw", name := "many", desc := "(LLogGrammar;II[J)I" } : Jvm.MethodName) method_19_code (5 : Nat) (Option.some Jvm.ClassFile.FieldType.int) [((0 : Nat), (10 : Nat), (13 : Nat), (15 : Nat)), ((0 : Nat), (10 : Nat), (17 : Nat), (25 : Nat))]) ∈ lw_all := lw_g (lw_at lw_m6 109 rfl) rfl
theorem q1382 : (Jvm.Cond.methodLink "LogGrammarLaw" (67 : Nat) ({ cls := "LogGrammar", name := "many", desc := "(II)I" } : Jvm.MethodName)) ∈ lw_all := lw_g (lw_at lw_m6 110 rfl) rfl
theorem q1388 : (Jvm.Cond.methodLink "LogGrammarLaw" (198 : Nat) ({ cls := "LogGrammarLaw", name := "watch", desc := "(LLogGrammar;ZZ[J)I" } : Jvm.MethodName)) ∈ lw_all := lw_g (lw_at lw_m6 116 rfl) rfl
theorem q1389 : (Jvm.Cond.static ({ cls := "LogGrammarLaw", name := "watch", desc := "(LLogGrammar;ZZ[J)I" } : Jvm.MethodName)) ∈ lw_all := lw_g (lw_at lw_m6 117 rfl) rfl
theorem q1390 : (Jvm.Cond.codeWith ({ cls := "LogGrammarLaw", name := "watch", desc := "(LLogGrammar;ZZ[J)I" } : Jvm.MethodName) method_20_code (5 : Nat) (Option.some Jvm.ClassFile.FieldType.int) [((0 : Nat), (10 : Nat), (13 : Nat), (25 : Nat))]) ∈ lw_all := lw_g (lw_at lw_m6 118 rfl) rfl
theorem q1391 : (Jvm.Cond.methodLink "LogGrammarLaw" (70 : Nat) ({ cls := "LogGrammar", name := "watch", desc := "(ZZ)I" } : Jvm.MethodName)) ∈ lw_all := lw_g (lw_at lw_m6 119 rfl) rfl
theorem q1464 : (Jvm.Cond.methodLink "LogGrammarLaw" (214 : Nat) ({ cls := "LogGrammarLaw", name := "eventAt", desc := "(LLogGrammar;I[J)I" } : Jvm.MethodName)) ∈ lw_all := lw_g (lw_at lw_m6 192 rfl) rfl
theorem q1465 : (Jvm.Cond.static ({ cls := "LogGrammarLaw", name := "eventAt", desc := "(LLogGrammar;I[J)I" } : Jvm.MethodName)) ∈ lw_all := lw_g (lw_at lw_m6 193 rfl) rfl
theorem q1466 : (Jvm.Cond.codeWith ({ cls := "LogGrammarLaw", name := "eventAt", desc := "(LLogGrammar;I[J)I" } : Jvm.MethodName) method_21_code (4 : Nat) (Option.some Jvm.ClassFile.FieldType.int) [((0 : Nat), (9 : Nat), (12 : Nat), (13 : Nat))]) ∈ lw_all := lw_g (lw_at lw_m6 194 rfl) rfl
theorem q1467 : (Jvm.Cond.methodLink "LogGrammarLaw" (74 : Nat) ({ cls := "LogGrammar", name := "eventAt", desc := "(I)I" } : Jvm.MethodName)) ∈ lw_all := lw_g (lw_at lw_m6 195 rfl) rfl
theorem q1471 : (Jvm.Cond.methodLink "LogGrammarLaw" (217 : Nat) ({ cls := "LogGrammarLaw", name := "timeOf", desc := "(LLogGrammar;I[J)I" } : Jvm.MethodName)) ∈ lw_all := lw_g (lw_at lw_m6 199 rfl) rfl
theorem q1472 : (Jvm.Cond.static ({ cls := "LogGrammarLaw", name := "timeOf", desc := "(LLogGrammar;I[J)I" } : Jvm.MethodName)) ∈ lw_all := lw_g (lw_at lw_m6 200 rfl) rfl
theorem q1473 : (Jvm.Cond.codeWith ({ cls := "LogGrammarLaw", name := "timeOf", desc := "(LLogGrammar;I[J)I" } : Jvm.MethodName) method_22_code (4 : Nat) (Option.some Jvm.ClassFile.FieldType.int) [((0 : Nat), (9 : Nat), (12 : Nat), (13 : Nat))]) ∈ lw_all := lw_g (lw_at lw_m6 201 rfl) rfl
theorem q1474 : (Jvm.Cond.methodLink "LogGrammarLaw" (77 : Nat) ({ cls := "LogGrammar", name := "timeOf", desc := "(I)I" } : Jvm.MethodName)) ∈ lw_all := lw_g (lw_at lw_m6 202 rfl) rfl
theorem q1482 : (Jvm.Cond.methodLink "LogGrammarLaw" (220 : Nat) ({ cls := "LogGrammarLaw", name := "isLate", desc := "(LLogGrammar;I[J)I" } : Jvm.MethodName)) ∈ lw_all := lw_g (lw_at lw_m6 210 rfl) rfl
theorem q1483 : (Jvm.Cond.static ({ cls := "LogGrammarLaw", name := "isLate", desc := "(LLogGrammar;I[J)I" } : Jvm.MethodName)) ∈ lw_all := lw_g (lw_at lw_m6 211 rfl) rfl
theorem q1484 : (Jvm.Cond.codeWith ({ cls := "LogGrammarLaw", name := "isLate", desc := "(LLogGrammar;I[J)I" } : Jvm.MethodName) method_23_code (4 : Nat) (Option.some Jvm.ClassFile.FieldType.int) [((0 : Nat), (16 : Nat), (19 : Nat), (13 : Nat))]) ∈ lw_all := lw_g (lw_at lw_m6 212 rfl) rfl
theorem q1485 : (Jvm.Cond.methodLink "LogGrammarLaw" (80 : Nat) ({ cls := "LogGrammar", name := "isLate", desc := "(I)Z" } : Jvm.MethodName)) ∈ lw_all := lw_g (lw_at lw_m6 213 rfl) rfl
theorem q1489 : (Jvm.Cond.methodLink "LogGrammarLaw" (223 : Nat) ({ cls := "LogGrammarLaw", name := "count", desc := "(LLogGrammar;III[J)I" } : Jvm.MethodName)) ∈ lw_all := lw_g (lw_at lw_m6 217 rfl) rfl
theorem q1490 : (Jvm.Cond.static ({ cls := "LogGrammarLaw", name := "count", desc := "(LLogGrammar;III[J)I" } : Jvm.MethodName)) ∈ lw_all := lw_g (lw_at lw_m6 218 rfl) rfl
theorem q1491 : (Jvm.Cond.codeWith ({ cls := "LogGrammarLaw", name := "count", desc := "(LLogGrammar;III[J)I" } : Jvm.MethodName) method_24_code (6 : Nat) (Option.some Jvm.ClassFile.FieldType.int) [((0 : Nat), (12 : Nat), (15 : Nat), (15 : Nat))]) ∈ lw_all := lw_g (lw_at lw_m6 219 rfl) rfl
theorem q1492 : (Jvm.Cond.methodLink "LogGrammarLaw" (84 : Nat) ({ cls := "LogGrammar", name := "count", desc := "(III)I" } : Jvm.MethodName)) ∈ lw_all := lw_g (lw_at lw_m6 220 rfl) rfl
theorem q1501 : (Jvm.Cond.methodLink "LogGrammarLaw" (227 : Nat) ({ cls := "LogGrammarLaw", name := "greatest", desc := "(LLogGrammar;III[J)I" } : Jvm.MethodName)) ∈ lw_all := lw_g (lw_at lw_m6 229 rfl) rfl
theorem q1502 : (Jvm.Cond.static ({ cls := "LogGrammarLaw", name := "greatest", desc := "(LLogGrammar;III[J)I" } : Jvm.MethodName)) ∈ lw_all := lw_g (lw_at lw_m6 230 rfl) rfl
theorem q1503 : (Jvm.Cond.codeWith ({ cls := "LogGrammarLaw", name := "greatest", desc := "(LLogGrammar;III[J)I" } : Jvm.MethodName) method_25_code (6 : Nat) (Option.some Jvm.ClassFile.FieldType.int) [((0 : Nat), (12 : Nat), (15 : Nat), (15 : Nat))]) ∈ lw_all := lw_g (lw_at lw_m6 231 rfl) rfl
theorem q1504 : (Jvm.Cond.methodLink "LogGrammarLaw" (88 : Nat) ({ cls := "LogGrammar", name := "greatest", desc := "(III)I" } : Jvm.MethodName)) ∈ lw_all := lw_g (lw_at lw_m6 232 rfl) rfl
theorem q1508 : (Jvm.Cond.methodLink "LogGrammarLaw" (230 : Nat) ({ cls := "LogGrammarLaw", name := "greatestByAll", desc := "(LLogGrammar;III[J)I" } : Jvm.MethodName)) ∈ lw_all := lw_g (lw_at lw_m6 236 rfl) rfl
theorem q1509 : (Jvm.Cond.static ({ cls := "LogGrammarLaw", name := "greatestByAll", desc := "(LLogGrammar;III[J)I" } : Jvm.MethodName)) ∈ lw_all := lw_g (lw_at lw_m6 237 rfl) rfl
theorem q1510 : (Jvm.Cond.codeWith ({ cls := "LogGrammarLaw", name := "greatestByAll", desc := "(LLogGrammar;III[J)I" } : Jvm.MethodName) method_26_code (6 : Nat) (Option.some Jvm.ClassFile.FieldType.int) [((0 : Nat), (12 : Nat), (15 : Nat), (15 : Nat))]) ∈ lw_all := lw_g (lw_at lw_m6 238 rfl) rfl
theorem q1511 : (Jvm.Cond.methodLink "LogGrammarLaw" (91 : Nat) ({ cls := "LogGrammar", name := "greatestByAll", desc := "(III)I" } : Jvm.MethodName)) ∈ lw_all := lw_g (lw_at lw_m6 239 rfl) rfl
theorem q1515 : (Jvm.Cond.methodLink "LogGrammarLaw" (233 : Nat) ({ cls := "LogGrammarLaw", name := "answer", desc := "(LLogGrammar;II[J)I" } : Jvm.MethodName)) ∈ lw_all := lw_g (lw_at lw_m7 3 rfl) rfl
theorem q1516 : (Jvm.Cond.static ({ cls := "LogGrammarLaw", name := "answer", desc := "(LLogGrammar;II[J)I" } : Jvm.MethodName)) ∈ lw_all := lw_g (lw_at lw_m7 4 rfl) rfl
theorem q1517 : (Jvm.Cond.codeWith ({ cls := "LogGrammarLaw", name := "answer", desc := "(LLogGrammar;II[J)I" } : Jvm.MethodName) method_27_code (5 : Nat) (Option.some Jvm.ClassFile.FieldType.int) [((0 : Nat), (10 : Nat), (13 : Nat), (13 : Nat))]) ∈ lw_all := lw_g (lw_at lw_m7 5 rfl) rfl
theorem q1518 : (Jvm.Cond.methodLink "LogGrammarLaw" (94 : Nat) ({ cls := "LogGrammar", name := "answer", desc := "(II)I" } : Jvm.MethodName)) ∈ lw_all := lw_g (lw_at lw_m7 6 rfl) rfl
theorem q1526 : (Jvm.Cond.methodLink "LogGrammarLaw" (236 : Nat) ({ cls := "LogGrammarLaw", name := "answerAnew", desc := "(LLogGrammar;II[J)I" } : Jvm.MethodName)) ∈ lw_all := lw_g (lw_at lw_m7 14 rfl) rfl
theorem q1527 : (Jvm.Cond.static ({ cls := "LogGrammarLaw", name := "answerAnew", desc := "(LLogGrammar;II[J)I" } : Jvm.MethodName)) ∈ lw_all := lw_g (lw_at lw_m7 15 rfl) rfl
theorem q1528 : (Jvm.Cond.codeWith ({ cls := "LogGrammarLaw", name := "answerAnew", desc := "(LLogGrammar;II[J)I" } : Jvm.MethodName) method_28_code (5 : Nat) (Option.some Jvm.ClassFile.FieldType.int) [((0 : Nat), (10 : Nat), (13 : Nat), (13 : Nat))]) ∈ lw_all := lw_g (lw_at lw_m7 16 rfl) rfl
theorem q1529 : (Jvm.Cond.methodLink "LogGrammarLaw" (97 : Nat) ({ cls := "LogGrammar", name := "answerAnew", desc := "(II)I" } : Jvm.MethodName)) ∈ lw_all := lw_g (lw_at lw_m7 17 rfl) rfl
theorem q1534 : (Jvm.Cond.methodLink "LogGrammarLaw" (239 : Nat) ({ cls := "LogGrammarLaw", name := "knownSince", desc := "(LLogGrammar;II[J)I" } : Jvm.MethodName)) ∈ lw_all := lw_g (lw_at lw_m7 22 rfl) rfl
theorem q1535 : (Jvm.Cond.static ({ cls := "LogGrammarLaw", name := "knownSince", desc := "(LLogGrammar;II[J)I" } : Jvm.MethodName)) ∈ lw_all := lw_g (lw_at lw_m7 23 rfl) rfl
theorem q1536 : (Jvm.Cond.codeWith ({ cls := "LogGrammarLaw", name := "knownSince", desc := "(LLogGrammar;II[J)I" } : Jvm.MethodName) method_29_code (5 : Nat) (Option.some Jvm.ClassFile.FieldType.int) [((0 : Nat), (10 : Nat), (13 : Nat), (13 : Nat))]) ∈ lw_all := lw_g (lw_at lw_m7 24 rfl) rfl
theorem q1537 : (Jvm.Cond.methodLink "LogGrammarLaw" (100 : Nat) ({ cls := "LogGrammar", name := "knownSince", desc := "(II)I" } : Jvm.MethodName)) ∈ lw_all := lw_g (lw_at lw_m7 25 rfl) rfl
theorem q1541 : (Jvm.Cond.methodLink "LogGrammarLaw" (242 : Nat) ({ cls := "LogGrammarLaw", name := "answers", desc := "(LLogGrammar;II[J)I" } : Jvm.MethodName)) ∈ lw_all := lw_g (lw_at lw_m7 29 rfl) rfl
theorem q1542 : (Jvm.Cond.static ({ cls := "LogGrammarLaw", name := "answers", desc := "(LLogGrammar;II[J)I" } : Jvm.MethodName)) ∈ lw_all := lw_g (lw_at lw_m7 30 rfl) rfl
theorem q1543 : (Jvm.Cond.codeWith ({ cls := "LogGrammarLaw", name := "answers", desc := "(LLogGrammar;II[J)I" } : Jvm.MethodName) method_30_code (5 : Nat) (Option.some Jvm.ClassFile.FieldType.int) [((0 : Nat), (10 : Nat), (13 : Nat), (13 : Nat)), ((0 : Nat), (10 : Nat), (17 : Nat), (15 : Nat))]) ∈ lw_all := lw_g (lw_at lw_m7 31 rfl) rfl
theorem q1544 : (Jvm.Cond.methodLink "LogGrammarLaw" (103 : Nat) ({ cls := "LogGrammar", name := "answers", desc := "(II)I" } : Jvm.MethodName)) ∈ lw_all := lw_g (lw_at lw_m7 32 rfl) rfl
theorem q1548 : (Jvm.Cond.methodLink "LogGrammarLaw" (245 : Nat) ({ cls := "LogGrammarLaw", name := "takenBack", desc := "(LLogGrammar;I[J)I" } : Jvm.MethodName)) ∈ lw_all := lw_g (lw_at lw_m7 36 rfl) rfl
theorem q1549 : (Jvm.Cond.static ({ cls := "LogGrammarLaw", name := "takenBack", desc := "(LLogGrammar;I[J)I" } : Jvm.MethodName)) ∈ lw_all := lw_g (lw_at lw_m7 37 rfl) rfl
theorem q1550 : (Jvm.Cond.codeWith ({ cls := "LogGrammarLaw", name := "takenBack", desc := "(LLogGrammar;I[J)I" } : Jvm.MethodName) method_31_code (4 : Nat) (Option.some Jvm.ClassFile.FieldType.int) [((0 : Nat), (9 : Nat), (12 : Nat), (13 : Nat))]) ∈ lw_all := lw_g (lw_at lw_m7 38 rfl) rfl
theorem q1551 : (Jvm.Cond.methodLink "LogGrammarLaw" (106 : Nat) ({ cls := "LogGrammar", name := "takenBack", desc := "(I)I" } : Jvm.MethodName)) ∈ lw_all := lw_g (lw_at lw_m7 39 rfl) rfl
theorem q1555 : (Jvm.Cond.methodLink "LogGrammarLaw" (248 : Nat) ({ cls := "LogGrammarLaw", name := "back", desc := "(LLogGrammar;I[J)I" } : Jvm.MethodName)) ∈ lw_all := lw_g (lw_at lw_m7 43 rfl) rfl
theorem q1556 : (Jvm.Cond.static ({ cls := "LogGrammarLaw", name := "back", desc := "(LLogGrammar;I[J)I" } : Jvm.MethodName)) ∈ lw_all := lw_g (lw_at lw_m7 44 rfl) rfl
theorem q1557 : (Jvm.Cond.codeWith ({ cls := "LogGrammarLaw", name := "back", desc := "(LLogGrammar;I[J)I" } : Jvm.MethodName) method_32_code (4 : Nat) (Option.some Jvm.ClassFile.FieldType.int) [((0 : Nat), (9 : Nat), (12 : Nat), (13 : Nat))]) ∈ lw_all := lw_g (lw_at lw_m7 45 rfl) rfl
theorem q1558 : (Jvm.Cond.methodLink "LogGrammarLaw" (109 : Nat) ({ cls := "LogGrammar", name := "back", desc := "(I)I" } : Jvm.MethodName)) ∈ lw_all := lw_g (lw_at lw_m7 46 rfl) rfl
theorem q1575 : (Jvm.Cond.methodLink "LogGrammarLaw" (251 : Nat) ({ cls := "LogGrammarLaw", name := "ahead", desc := "(LLogGrammar;I[J)I" } : Jvm.MethodName)) ∈ lw_all := lw_g (lw_at lw_m7 63 rfl) rfl
theorem q1576 : (Jvm.Cond.static ({ cls := "LogGrammarLaw", name := "ahead", desc := "(LLogGrammar;I[J)I" } : Jvm.MethodName)) ∈ lw_all := lw_g (lw_at lw_m7 64 rfl) rfl
theorem q1577 : (Jvm.Cond.codeWith ({ cls := "LogGrammarLaw", name := "ahead", desc := "(LLogGrammar;I[J)I" } : Jvm.MethodName) method_33_code (4 : Nat) (Option.some Jvm.ClassFile.FieldType.int) [((0 : Nat), (9 : Nat), (12 : Nat), (13 : Nat))]) ∈ lw_all := lw_g (lw_at lw_m7 65 rfl) rfl
theorem q1578 : (Jvm.Cond.methodLink "LogGrammarLaw" (112 : Nat) ({ cls := "LogGrammar", name := "ahead", desc := "(I)I" } : Jvm.MethodName)) ∈ lw_all := lw_g (lw_at lw_m7 66 rfl) rfl
theorem q1582 : (Jvm.Cond.methodLink "LogGrammarLaw" (262 : Nat) ({ cls := "LogGrammarLaw", name := "overOrders", desc := "(LLogGrammar;III[J)I" } : Jvm.MethodName)) ∈ lw_all := lw_g (lw_at lw_m7 70 rfl) rfl
theorem q1583 : (Jvm.Cond.static ({ cls := "LogGrammarLaw", name := "overOrders", desc := "(LLogGrammar;III[J)I" } : Jvm.MethodName)) ∈ lw_all := lw_g (lw_at lw_m7 71 rfl) rfl
theorem q1584 : (Jvm.Cond.codeWith ({ cls := "LogGrammarLaw", name := "overOrders", desc := "(LLogGrammar;III[J)I" } : Jvm.MethodName) method_34_code (6 : Nat) (Option.some Jvm.ClassFile.FieldType.int) [((0 : Nat), (12 : Nat), (15 : Nat), (13 : Nat)), ((0 : Nat), (12 : Nat), (19 : Nat), (15 : Nat)), ((0 : Nat), (12 : Nat), (23 : Nat), (25 : Nat))]) ∈ lw_all := lw_g (lw_at lw_m7 72 rfl) rfl
theorem q1585 : (Jvm.Cond.methodLink "LogGrammarLaw" (115 : Nat) ({ cls := "LogGrammar", name := "overOrders", desc := "(III)I" } : Jvm.MethodName)) ∈ lw_all := lw_g (lw_at lw_m7 73 rfl) rfl
theorem q1589 : (Jvm.Cond.methodLink "LogGrammarLaw" (265 : Nat) ({ cls := "LogGrammarLaw", name := "explanation", desc := "(LLogGrammar;II[J)I" } : Jvm.MethodName)) ∈ lw_all := lw_g (lw_at lw_m7 77 rfl) rfl
theorem q1590 : (Jvm.Cond.static ({ cls := "LogGrammarLaw", name := "explanation", desc := "(LLogGrammar;II[J)I" } : Jvm.MethodName)) ∈ lw_all := lw_g (lw_at lw_m7 78 rfl) rfl
theorem q1591 : (Jvm.Cond.codeWith ({ cls := "LogGrammarLaw", name := "explanation", desc := "(LLogGrammar;II[J)I" } : Jvm.MethodName) method_35_code (5 : Nat) (Option.some Jvm.ClassFile.FieldType.int) [((0 : Nat), (10 : Nat), (13 : Nat), (13 : Nat)), ((0 : Nat), (10 : Nat), (17 : Nat), (25 : Nat))]) ∈ lw_all := lw_g (lw_at lw_m7 79 rfl) rfl
theorem q1592 : (Jvm.Cond.methodLink "LogGrammarLaw" (118 : Nat) ({ cls := "LogGrammar", name := "explanation", desc := "(II)I" } : Jvm.MethodName)) ∈ lw_all := lw_g (lw_at lw_m7 80 rfl) rfl
theorem q1610 : (Jvm.Cond.methodLink "LogGrammarLaw" (268 : Nat) ({ cls := "LogGrammarLaw", name := "explainedBy", desc := "(LLogGrammar;III[J)I" } : Jvm.MethodName)) ∈ lw_all := lw_g (lw_at lw_m7 98 rfl) rfl
theorem q1611 : (Jvm.Cond.static ({ cls := "LogGrammarLaw", name := "explainedBy", desc := "(LLogGrammar;III[J)I" } : Jvm.MethodName)) ∈ lw_all := lw_g (lw_at lw_m7 99 rfl) rfl
theorem q1612 : (Jvm.Cond.codeWith ({ cls := "LogGrammarLaw", name := "explainedBy", desc := "(LLogGrammar;III[J)I" } : Jvm.MethodName) method_36_code (6 : Nat) (Option.some Jvm.ClassFile.FieldType.int) [((0 : Nat), (12 : Nat), (15 : Nat), (13 : Nat)), ((0 : Nat), (12 : Nat), (19 : Nat), (25 : Nat))]) ∈ lw_all := lw_g (lw_at lw_m7 100 rfl) rfl
theorem q1613 : (Jvm.Cond.methodLink "LogGrammarLaw" (121 : Nat) ({ cls := "LogGrammar", name := "explainedBy", desc := "(III)I" } : Jvm.MethodName)) ∈ lw_all := lw_g (lw_at lw_m7 101 rfl) rfl
theorem q1617 : (Jvm.Cond.methodLink "LogGrammarLaw" (271 : Nat) ({ cls := "LogGrammarLaw", name := "mend", desc := "(LLogGrammar;II[J)I" } : Jvm.MethodName)) ∈ lw_all := lw_g (lw_at lw_m7 105 rfl) rfl
theorem q1618 : (Jvm.Cond.static ({ cls := "LogGrammarLaw", name := "mend", desc := "(LLogGrammar;II[J)I" } : Jvm.MethodName)) ∈ lw_all := lw_g (lw_at lw_m7 106 rfl) rfl
theorem q1619 : (Jvm.Cond.codeWith ({ cls := "LogGrammarLaw", name := "mend", desc := "(LLogGrammar;II[J)I" } : Jvm.MethodName) method_37_code (5 : Nat) (Option.some Jvm.ClassFile.FieldType.int) [((0 : Nat), (10 : Nat), (13 : Nat), (13 : Nat)), ((0 : Nat), (10 : Nat), (17 : Nat), (25 : Nat))]) ∈ lw_all := lw_g (lw_at lw_m7 107 rfl) rfl
theorem q1620 : (Jvm.Cond.methodLink "LogGrammarLaw" (124 : Nat) ({ cls := "LogGrammar", name := "mend", desc := "(II)I" } : Jvm.MethodName)) ∈ lw_all := lw_g (lw_at lw_m7 108 rfl) rfl
theorem q1624 : (Jvm.Cond.methodLink "LogGrammarLaw" (274 : Nat) ({ cls := "LogGrammarLaw", name := "mendedBy", desc := "(LLogGrammar;III[J)I" } : Jvm.MethodName)) ∈ lw_all := lw_g (lw_at lw_m7 112 rfl) rfl
theorem q1625 : (Jvm.Cond.static ({ cls := "LogGrammarLaw", name := "mendedBy", desc := "(LLogGrammar;III[J)I" } : Jvm.MethodName)) ∈ lw_all := lw_g (lw_at lw_m7 113 rfl) rfl
theorem q1626 : (Jvm.Cond.codeWith ({ cls := "LogGrammarLaw", name := "mendedBy", desc := "(LLogGrammar;III[J)I" } : Jvm.MethodName) method_38_code (6 : Nat) (Option.some Jvm.ClassFile.FieldType.int) [((0 : Nat), (12 : Nat), (15 : Nat), (13 : Nat)), ((0 : Nat), (12 : Nat), (19 : Nat), (25 : Nat))]) ∈ lw_all := lw_g (lw_at lw_m7 114 rfl) rfl
theorem q1627 : (Jvm.Cond.methodLink "LogGrammarLaw" (127 : Nat) ({ cls := "LogGrammar", name := "mendedBy", desc := "(III)I" } : Jvm.MethodName)) ∈ lw_all := lw_g (lw_at lw_m7 115 rfl) rfl
theorem q1631 : (Jvm.Cond.classLink "LogGrammarLaw" (131 : Nat) "LogGrammarModel") ∈ lw_all := lw_g (lw_at lw_m7 119 rfl) rfl
theorem q1633 : (Jvm.Cond.methodLink "LogGrammarLaw" (133 : Nat) ({ cls := "LogGrammarModel", name := "<init>", desc := "()V" } : Jvm.MethodName)) ∈ lw_all := lw_g (lw_at lw_m7 121 rfl) rfl
theorem q1744 : (Jvm.Cond.methodLink "LogGrammarLaw" (140 : Nat) ({ cls := "LogGrammarModel", name := "thrown", desc := "()I" } : Jvm.MethodName)) ∈ lw_all := lw_g (lw_at lw_m7 232 rfl) rfl
theorem q1748 : (Jvm.Cond.methodLink "LogGrammarLaw" (139 : Nat) ({ cls := "LogGrammarModel", name := "setOffset", desc := "(II)I" } : Jvm.MethodName)) ∈ lw_all := lw_g (lw_at lw_m7 236 rfl) rfl
theorem q1762 : (Jvm.Cond.methodLink "LogGrammarLaw" (146 : Nat) ({ cls := "LogGrammarModel", name := "setPatience", desc := "(I)I" } : Jvm.MethodName)) ∈ lw_all := lw_g (lw_at lw_m8 10 rfl) rfl
theorem q1766 : (Jvm.Cond.methodLink "LogGrammarLaw" (150 : Nat) ({ cls := "LogGrammarModel", name := "event", desc := "(IIIII)I" } : Jvm.MethodName)) ∈ lw_all := lw_g (lw_at lw_m8 14 rfl) rfl
theorem q1857 : (Jvm.Cond.methodLink "LogGrammarLaw" (153 : Nat) ({ cls := "LogGrammarModel", name := "offer", desc := "(IIIII)I" } : Jvm.MethodName)) ∈ lw_all := lw_g (lw_at lw_m8 105 rfl) rfl
theorem q1869 : (Jvm.Cond.methodLink "LogGrammarLaw" (157 : Nat) ({ cls := "LogGrammarModel", name := "close", desc := "()I" } : Jvm.MethodName)) ∈ lw_all := lw_g (lw_at lw_m8 117 rfl) rfl
theorem q1873 : (Jvm.Cond.methodLink "LogGrammarLaw" (160 : Nat) ({ cls := "LogGrammarModel", name := "kindIs", desc := "(I)I" } : Jvm.MethodName)) ∈ lw_all := lw_g (lw_at lw_m8 121 rfl) rfl
theorem q1885 : (Jvm.Cond.methodLink "LogGrammarLaw" (163 : Nat) ({ cls := "LogGrammarModel", name := "valueIs", desc := "(II)I" } : Jvm.MethodName)) ∈ lw_all := lw_g (lw_at lw_m8 133 rfl) rfl
theorem q1889 : (Jvm.Cond.methodLink "LogGrammarLaw" (166 : Nat) ({ cls := "LogGrammarModel", name := "not", desc := "()I" } : Jvm.MethodName)) ∈ lw_all := lw_g (lw_at lw_m8 137 rfl) rfl
theorem q1905 : (Jvm.Cond.methodLink "LogGrammarLaw" (169 : Nat) ({ cls := "LogGrammarModel", name := "both", desc := "()I" } : Jvm.MethodName)) ∈ lw_all := lw_g (lw_at lw_m8 153 rfl) rfl
theorem q1909 : (Jvm.Cond.methodLink "LogGrammarLaw" (172 : Nat) ({ cls := "LogGrammarModel", name := "either", desc := "()I" } : Jvm.MethodName)) ∈ lw_all := lw_g (lw_at lw_m8 157 rfl) rfl
theorem q1913 : (Jvm.Cond.methodLink "LogGrammarLaw" (175 : Nat) ({ cls := "LogGrammarModel", name := "before", desc := "()I" } : Jvm.MethodName)) ∈ lw_all := lw_g (lw_at lw_m8 161 rfl) rfl
theorem q1917 : (Jvm.Cond.methodLink "LogGrammarLaw" (178 : Nat) ({ cls := "LogGrammarModel", name := "since", desc := "(I)I" } : Jvm.MethodName)) ∈ lw_all := lw_g (lw_at lw_m8 165 rfl) rfl
theorem q1928 : (Jvm.Cond.methodLink "LogGrammarLaw" (181 : Nat) ({ cls := "LogGrammarModel", name := "once", desc := "(I)I" } : Jvm.MethodName)) ∈ lw_all := lw_g (lw_at lw_m8 176 rfl) rfl
theorem q1932 : (Jvm.Cond.methodLink "LogGrammarLaw" (184 : Nat) ({ cls := "LogGrammarModel", name := "next", desc := "()I" } : Jvm.MethodName)) ∈ lw_all := lw_g (lw_at lw_m8 180 rfl) rfl
theorem q1936 : (Jvm.Cond.methodLink "LogGrammarLaw" (187 : Nat) ({ cls := "LogGrammarModel", name := "until", desc := "(I)I" } : Jvm.MethodName)) ∈ lw_all := lw_g (lw_at lw_m8 184 rfl) rfl
theorem q1940 : (Jvm.Cond.methodLink "LogGrammarLaw" (190 : Nat) ({ cls := "LogGrammarModel", name := "soon", desc := "(I)I" } : Jvm.MethodName)) ∈ lw_all := lw_g (lw_at lw_m8 188 rfl) rfl
theorem q1944 : (Jvm.Cond.methodLink "LogGrammarLaw" (193 : Nat) ({ cls := "LogGrammarModel", name := "many", desc := "(II)I" } : Jvm.MethodName)) ∈ lw_all := lw_g (lw_at lw_m8 192 rfl) rfl
theorem q1948 : (Jvm.Cond.methodLink "LogGrammarLaw" (197 : Nat) ({ cls := "LogGrammarModel", name := "scrap", desc := "()I" } : Jvm.MethodName)) ∈ lw_all := lw_g (lw_at lw_m8 196 rfl) rfl
theorem q1956 : (Jvm.Cond.methodLink "LogGrammarLaw" (201 : Nat) ({ cls := "LogGrammarModel", name := "watch", desc := "(ZZ)I" } : Jvm.MethodName)) ∈ lw_all := lw_g (lw_at lw_m8 204 rfl) rfl
theorem q1960 : (Jvm.Cond.methodLink "LogGrammarLaw" (205 : Nat) ({ cls := "LogGrammarModel", name := "events", desc := "()I" } : Jvm.MethodName)) ∈ lw_all := lw_g (lw_at lw_m8 208 rfl) rfl
theorem q1964 : (Jvm.Cond.methodLink "LogGrammarLaw" (209 : Nat) ({ cls := "LogGrammarModel", name := "dropped", desc := "()I" } : Jvm.MethodName)) ∈ lw_all := lw_g (lw_at lw_m8 212 rfl) rfl
theorem q1968 : (Jvm.Cond.methodLink "LogGrammarLaw" (213 : Nat) ({ cls := "LogGrammarModel", name := "present", desc := "()I" } : Jvm.MethodName)) ∈ lw_all := lw_g (lw_at lw_m8 216 rfl) rfl
theorem q1972 : (Jvm.Cond.methodLink "LogGrammarLaw" (216 : Nat) ({ cls := "LogGrammarModel", name := "eventAt", desc := "(I)I" } : Jvm.MethodName)) ∈ lw_all := lw_g (lw_at lw_m8 220 rfl) rfl
theorem q1980 : (Jvm.Cond.methodLink "LogGrammarLaw" (219 : Nat) ({ cls := "LogGrammarModel", name := "timeOf", desc := "(I)I" } : Jvm.MethodName)) ∈ lw_all := lw_g (lw_at lw_m8 228 rfl) rfl
theorem q1984 : (Jvm.Cond.methodLink "LogGrammarLaw" (222 : Nat) ({ cls := "LogGrammarModel", name := "isLate", desc := "(I)Z" } : Jvm.MethodName)) ∈ lw_all := lw_g (lw_at lw_m8 232 rfl) rfl
theorem q1988 : (Jvm.Cond.methodLink "LogGrammarLaw" (226 : Nat) ({ cls := "LogGrammarModel", name := "count", desc := "(III)I" } : Jvm.MethodName)) ∈ lw_all := lw_g (lw_at lw_m8 236 rfl) rfl
theorem q1996 : (Jvm.Cond.methodLink "LogGrammarLaw" (229 : Nat) ({ cls := "LogGrammarModel", name := "greatest", desc := "(III)I" } : Jvm.MethodName)) ∈ lw_all := lw_g (lw_at lw_m9 4 rfl) rfl
theorem q2000 : (Jvm.Cond.methodLink "LogGrammarLaw" (232 : Nat) ({ cls := "LogGrammarModel", name := "greatestByAll", desc := "(III)I" } : Jvm.MethodName)) ∈ lw_all := lw_g (lw_at lw_m9 8 rfl) rfl
theorem q2005 : (Jvm.Cond.methodLink "LogGrammarLaw" (235 : Nat) ({ cls := "LogGrammarModel", name := "answer", desc := "(II)I" } : Jvm.MethodName)) ∈ lw_all := lw_g (lw_at lw_m9 13 rfl) rfl
theorem q2017 : (Jvm.Cond.methodLink "LogGrammarLaw" (238 : Nat) ({ cls := "LogGrammarModel", name := "answerAnew", desc := "(II)I" } : Jvm.MethodName)) ∈ lw_all := lw_g (lw_at lw_m9 25 rfl) rfl
theorem q2022 : (Jvm.Cond.methodLink "LogGrammarLaw" (241 : Nat) ({ cls := "LogGrammarModel", name := "knownSince", desc := "(II)I" } : Jvm.MethodName)) ∈ lw_all := lw_g (lw_at lw_m9 30 rfl) rfl
theorem q2026 : (Jvm.Cond.methodLink "LogGrammarLaw" (244 : Nat) ({ cls := "LogGrammarModel", name := "answers", desc := "(II)I" } : Jvm.MethodName)) ∈ lw_all := lw_g (lw_at lw_m9 34 rfl) rfl
theorem q2033 : (Jvm.Cond.methodLink "LogGrammarLaw" (247 : Nat) ({ cls := "LogGrammarModel", name := "takenBack", desc := "(I)I" } : Jvm.MethodName)) ∈ lw_all := lw_g (lw_at lw_m9 41 rfl) rfl
theorem q2037 : (Jvm.Cond.methodLink "LogGrammarLaw" (250 : Nat) ({ cls := "LogGrammarModel", name := "back", desc := "(I)I" } : Jvm.MethodName)) ∈ lw_all := lw_g (lw_at lw_m9 45 rfl) rfl
theorem q2055 : (Jvm.Cond.methodLink "LogGrammarLaw" (253 : Nat) ({ cls := "LogGrammarModel", name := "ahead", desc := "(I)I" } : Jvm.MethodName)) ∈ lw_all := lw_g (lw_at lw_m9 63 rfl) rfl
theorem q2059 : (Jvm.Cond.methodLink "LogGrammarLaw" (257 : Nat) ({ cls := "LogGrammarModel", name := "parts", desc := "()I" } : Jvm.MethodName)) ∈ lw_all := lw_g (lw_at lw_m9 67 rfl) rfl
theorem q2067 : (Jvm.Cond.methodLink "LogGrammarLaw" (261 : Nat) ({ cls := "LogGrammarModel", name := "orders", desc := "()I" } : Jvm.MethodName)) ∈ lw_all := lw_g (lw_at lw_m9 75 rfl) rfl
theorem q2089 : (Jvm.Cond.methodLink "LogGrammarLaw" (264 : Nat) ({ cls := "LogGrammarModel", name := "overOrders", desc := "(III)I" } : Jvm.MethodName)) ∈ lw_all := lw_g (lw_at lw_m9 97 rfl) rfl
theorem q2097 : (Jvm.Cond.methodLink "LogGrammarLaw" (267 : Nat) ({ cls := "LogGrammarModel", name := "explanation", desc := "(II)I" } : Jvm.MethodName)) ∈ lw_all := lw_g (lw_at lw_m9 105 rfl) rfl
theorem q2126 : (Jvm.Cond.methodLink "LogGrammarLaw" (270 : Nat) ({ cls := "LogGrammarModel", name := "explainedBy", desc := "(III)I" } : Jvm.MethodName)) ∈ lw_all := lw_g (lw_at lw_m9 134 rfl) rfl
theorem q2134 : (Jvm.Cond.methodLink "LogGrammarLaw" (273 : Nat) ({ cls := "LogGrammarModel", name := "mend", desc := "(II)I" } : Jvm.MethodName)) ∈ lw_all := lw_g (lw_at lw_m9 142 rfl) rfl
theorem q2138 : (Jvm.Cond.methodLink "LogGrammarLaw" (276 : Nat) ({ cls := "LogGrammarModel", name := "mendedBy", desc := "(III)I" } : Jvm.MethodName)) ∈ lw_all := lw_g (lw_at lw_m9 146 rfl) rfl
/-! LogGrammar -/
set_option maxRecDepth 100000
def RX1 : String := "LogGrammar"
def TX1 : u_T := fun k => match k with
  | 0 => ("LogGrammar", "offsets", "[I", true)
  | 1 => ("LogGrammar", "patience", "I", false)
  | 2 => ("LogGrammar", "events", "Ljava/util/List;", true)
  | 3 => ("LogGrammar", "log", "Ljava/util/List;", true)
  | 4 => ("LogGrammar", "trees", "Ljava/util/List;", true)
  | 5 => ("LogGrammar", "present", "I", false)
  | 6 => ("LogGrammar", "isOpen", "Z", false)
  | 7 => ("LogGrammar", "droppedMany", "I", false)
  | 8 => ("LogGrammar", "parts", "Ljava/util/List;", true)
  | 9 => ("LogGrammar", "monitors", "Ljava/util/List;", true)
  | 10 => ("LogGrammar", "found", "[I", true)
  | _ => ("LogGrammar", "left", "Ljava/util/List;", true)
def tyX1 : Nat → FieldType := fun k => match k with
  | 0 => .array .int
  | 1 => .int
  | 2 => .object "java/util/List"
  | 3 => .object "java/util/List"
  | 4 => .object "java/util/List"
  | 5 => .int
  | 6 => .boolean
  | 7 => .int
  | 8 => .object "java/util/List"
  | 9 => .object "java/util/List"
  | 10 => .array .int
  | _ => .object "java/util/List"
abbrev wsX10 : List Cond := u_ws RX1 TX1 12
theorem nmX1 : ∀ a, a < 12 → ∀ b, b < 12 → a ≠ b → (TX1 a).2.1 ≠ (TX1 b).2.1 := by decide +kernel
theorem tyX1_ok : ∀ k, k < 12 → parseFieldDescriptor (TX1 k).2.2.1 = some (tyX1 k) := by decide +kernel
abbrev cX1_init : ByteArray := prog_1_method_4_code
def yX1_init : MethodName := ⟨RX1, "<init>", "()V"⟩
def dkwX1_init_5 : List UInt8 := [17, 42, 248, 183, 0, 48, 185, 0, 51, 2, 0, 87, 132, 1, 1, 167, 255, 226, 177]
abbrev dktX1_init_5 : List UInt8 := dkwX1_init_5 ++ []
def dkwX1_init_4 : List UInt8 := [183, 0, 19, 181, 0, 43, 3, 60, 27, 16, 8, 162, 0, 30, 42, 180, 0, 27, 187, 0, 46, 89, 3]
abbrev dktX1_init_4 : List UInt8 := dkwX1_init_4 ++ dktX1_init_5
def dkwX1_init_3 : List UInt8 := [187, 0, 17, 89, 183, 0, 19, 181, 0, 37, 42, 16, 80, 188, 10, 181, 0, 40, 42, 187, 0, 17, 89]
abbrev dktX1_init_3 : List UInt8 := dkwX1_init_3 ++ dktX1_init_4
def dkwX1_init_2 : List UInt8 := [183, 0, 19, 181, 0, 27, 42, 4, 181, 0, 30, 42, 187, 0, 17, 89, 183, 0, 19, 181, 0, 34, 42]
abbrev dktX1_init_2 : List UInt8 := dkwX1_init_2 ++ dktX1_init_3
def dkwX1_init_1 : List UInt8 := [183, 0, 19, 181, 0, 20, 42, 187, 0, 17, 89, 183, 0, 19, 181, 0, 24, 42, 187, 0, 17, 89]
abbrev dktX1_init_1 : List UInt8 := dkwX1_init_1 ++ dktX1_init_2
def dkwX1_init_0 : List UInt8 := [42, 183, 0, 3, 42, 7, 188, 10, 181, 0, 9, 42, 16, 50, 181, 0, 13, 42, 187, 0, 17, 89]
abbrev dktX1_init_0 : List UInt8 := dkwX1_init_0 ++ dktX1_init_1
theorem dksX1_init_0 : cX1_init.data.toList.drop 0 = dktX1_init_0 := by decide +kernel
theorem dksX1_init_1 : cX1_init.data.toList.drop 22 = dktX1_init_1 := dk_seg dksX1_init_0 22 rfl rfl
theorem dksX1_init_2 : cX1_init.data.toList.drop 44 = dktX1_init_2 := dk_seg dksX1_init_1 22 rfl rfl
theorem dksX1_init_3 : cX1_init.data.toList.drop 67 = dktX1_init_3 := dk_seg dksX1_init_2 23 rfl rfl
theorem dksX1_init_4 : cX1_init.data.toList.drop 90 = dktX1_init_4 := dk_seg dksX1_init_3 23 rfl rfl
theorem dksX1_init_5 : cX1_init.data.toList.drop 113 = dktX1_init_5 := dk_seg dksX1_init_4 23 rfl rfl
theorem dX1_init_0 : decode cX1_init 0 = .ok (.aload_n 0, 1) := dk_42 (dk_at dksX1_init_0 0 rfl rfl)
theorem dX1_init_1 : decode cX1_init 1 = .ok (.invokespecial 3, 3) := dk_183 0 3 (dk_at dksX1_init_0 1 rfl rfl)
theorem dX1_init_4 : decode cX1_init 4 = .ok (.aload_n 0, 1) := dk_42 (dk_at dksX1_init_0 4 rfl rfl)
theorem dX1_init_5 : decode cX1_init 5 = .ok (.iconst 4, 1) := dk_7 (dk_at dksX1_init_0 5 rfl rfl)
theorem dX1_init_6 : decode cX1_init 6 = .ok (.newarray .int, 2) := dk_188_10 (dk_at dksX1_init_0 6 rfl rfl)
theorem dX1_init_8 : decode cX1_init 8 = .ok (.putfield 9, 3) := dk_181 0 9 (dk_at dksX1_init_0 8 rfl rfl)
theorem dX1_init_11 : decode cX1_init 11 = .ok (.aload_n 0, 1) := dk_42 (dk_at dksX1_init_0 11 rfl rfl)
theorem dX1_init_12 : decode cX1_init 12 = .ok (.bipush 50, 2) := dk_16 50 (dk_at dksX1_init_0 12 rfl rfl)
theorem dX1_init_14 : decode cX1_init 14 = .ok (.putfield 13, 3) := dk_181 0 13 (dk_at dksX1_init_0 14 rfl rfl)
theorem dX1_init_17 : decode cX1_init 17 = .ok (.aload_n 0, 1) := dk_42 (dk_at dksX1_init_0 17 rfl rfl)
theorem dX1_init_18 : decode cX1_init 18 = .ok (.new 17, 3) := dk_187 0 17 (dk_at dksX1_init_0 18 rfl rfl)
theorem dX1_init_21 : decode cX1_init 21 = .ok (.dup, 1) := dk_89 (dk_at dksX1_init_0 21 rfl rfl)
theorem dX1_init_22 : decode cX1_init 22 = .ok (.invokespecial 19, 3) := dk_183 0 19 (dk_at dksX1_init_1 0 rfl rfl)
theorem dX1_init_25 : decode cX1_init 25 = .ok (.putfield 20, 3) := dk_181 0 20 (dk_at dksX1_init_1 3 rfl rfl)
theorem dX1_init_28 : decode cX1_init 28 = .ok (.aload_n 0, 1) := dk_42 (dk_at dksX1_init_1 6 rfl rfl)
theorem dX1_init_29 : decode cX1_init 29 = .ok (.new 17, 3) := dk_187 0 17 (dk_at dksX1_init_1 7 rfl rfl)
theorem dX1_init_32 : decode cX1_init 32 = .ok (.dup, 1) := dk_89 (dk_at dksX1_init_1 10 rfl rfl)
theorem dX1_init_33 : decode cX1_init 33 = .ok (.invokespecial 19, 3) := dk_183 0 19 (dk_at dksX1_init_1 11 rfl rfl)
theorem dX1_init_36 : decode cX1_init 36 = .ok (.putfield 24, 3) := dk_181 0 24 (dk_at dksX1_init_1 14 rfl rfl)
theorem dX1_init_39 : decode cX1_init 39 = .ok (.aload_n 0, 1) := dk_42 (dk_at dksX1_init_1 17 rfl rfl)
theorem dX1_init_40 : decode cX1_init 40 = .ok (.new 17, 3) := dk_187 0 17 (dk_at dksX1_init_1 18 rfl rfl)
theorem dX1_init_43 : decode cX1_init 43 = .ok (.dup, 1) := dk_89 (dk_at dksX1_init_1 21 rfl rfl)
theorem dX1_init_44 : decode cX1_init 44 = .ok (.invokespecial 19, 3) := dk_183 0 19 (dk_at dksX1_init_2 0 rfl rfl)
theorem dX1_init_47 : decode cX1_init 47 = .ok (.putfield 27, 3) := dk_181 0 27 (dk_at dksX1_init_2 3 rfl rfl)
theorem dX1_init_50 : decode cX1_init 50 = .ok (.aload_n 0, 1) := dk_42 (dk_at dksX1_init_2 6 rfl rfl)
theorem dX1_init_51 : decode cX1_init 51 = .ok (.iconst 1, 1) := dk_4 (dk_at dksX1_init_2 7 rfl rfl)
theorem dX1_init_52 : decode cX1_init 52 = .ok (.putfield 30, 3) := dk_181 0 30 (dk_at dksX1_init_2 8 rfl rfl)
theorem dX1_init_55 : decode cX1_init 55 = .ok (.aload_n 0, 1) := dk_42 (dk_at dksX1_init_2 11 rfl rfl)
theorem dX1_init_56 : decode cX1_init 56 = .ok (.new 17, 3) := dk_187 0 17 (dk_at dksX1_init_2 12 rfl rfl)
theorem dX1_init_59 : decode cX1_init 59 = .ok (.dup, 1) := dk_89 (dk_at dksX1_init_2 15 rfl rfl)
theorem dX1_init_60 : decode cX1_init 60 = .ok (.invokespecial 19, 3) := dk_183 0 19 (dk_at dksX1_init_2 16 rfl rfl)
theorem dX1_init_63 : decode cX1_init 63 = .ok (.putfield 34, 3) := dk_181 0 34 (dk_at dksX1_init_2 19 rfl rfl)
theorem dX1_init_66 : decode cX1_init 66 = .ok (.aload_n 0, 1) := dk_42 (dk_at dksX1_init_2 22 rfl rfl)
theorem dX1_init_67 : decode cX1_init 67 = .ok (.new 17, 3) := dk_187 0 17 (dk_at dksX1_init_3 0 rfl rfl)
theorem dX1_init_70 : decode cX1_init 70 = .ok (.dup, 1) := dk_89 (dk_at dksX1_init_3 3 rfl rfl)
theorem dX1_init_71 : decode cX1_init 71 = .ok (.invokespecial 19, 3) := dk_183 0 19 (dk_at dksX1_init_3 4 rfl rfl)
theorem dX1_init_74 : decode cX1_init 74 = .ok (.putfield 37, 3) := dk_181 0 37 (dk_at dksX1_init_3 7 rfl rfl)
theorem dX1_init_77 : decode cX1_init 77 = .ok (.aload_n 0, 1) := dk_42 (dk_at dksX1_init_3 10 rfl rfl)
theorem dX1_init_78 : decode cX1_init 78 = .ok (.bipush 80, 2) := dk_16 80 (dk_at dksX1_init_3 11 rfl rfl)
theorem dX1_init_80 : decode cX1_init 80 = .ok (.newarray .int, 2) := dk_188_10 (dk_at dksX1_init_3 13 rfl rfl)
theorem dX1_init_82 : decode cX1_init 82 = .ok (.putfield 40, 3) := dk_181 0 40 (dk_at dksX1_init_3 15 rfl rfl)
theorem dX1_init_85 : decode cX1_init 85 = .ok (.aload_n 0, 1) := dk_42 (dk_at dksX1_init_3 18 rfl rfl)
theorem dX1_init_86 : decode cX1_init 86 = .ok (.new 17, 3) := dk_187 0 17 (dk_at dksX1_init_3 19 rfl rfl)
theorem dX1_init_89 : decode cX1_init 89 = .ok (.dup, 1) := dk_89 (dk_at dksX1_init_3 22 rfl rfl)
theorem dX1_init_90 : decode cX1_init 90 = .ok (.invokespecial 19, 3) := dk_183 0 19 (dk_at dksX1_init_4 0 rfl rfl)
theorem dX1_init_93 : decode cX1_init 93 = .ok (.putfield 43, 3) := dk_181 0 43 (dk_at dksX1_init_4 3 rfl rfl)
theorem dX1_init_96 : decode cX1_init 96 = .ok (.iconst 0, 1) := dk_3 (dk_at dksX1_init_4 6 rfl rfl)
theorem dX1_init_97 : decode cX1_init 97 = .ok (.istore_n 1, 1) := dk_60 (dk_at dksX1_init_4 7 rfl rfl)
theorem dX1_init_98 : decode cX1_init 98 = .ok (.iload_n 1, 1) := dk_27 (dk_at dksX1_init_4 8 rfl rfl)
theorem dX1_init_99 : decode cX1_init 99 = .ok (.bipush 8, 2) := dk_16 8 (dk_at dksX1_init_4 9 rfl rfl)
theorem dX1_init_101 : decode cX1_init 101 = .ok (.if_icmp .ge 30, 3) := dk_162 0 30 (dk_at dksX1_init_4 11 rfl rfl)
theorem dX1_init_104 : decode cX1_init 104 = .ok (.aload_n 0, 1) := dk_42 (dk_at dksX1_init_4 14 rfl rfl)
theorem dX1_init_105 : decode cX1_init 105 = .ok (.getfield 27, 3) := dk_180 0 27 (dk_at dksX1_init_4 15 rfl rfl)
theorem dX1_init_108 : decode cX1_init 108 = .ok (.new 46, 3) := dk_187 0 46 (dk_at dksX1_init_4 18 rfl rfl)
theorem dX1_init_111 : decode cX1_init 111 = .ok (.dup, 1) := dk_89 (dk_at dksX1_init_4 21 rfl rfl)
theorem dX1_init_112 : decode cX1_init 112 = .ok (.iconst 0, 1) := dk_3 (dk_at dksX1_init_4 22 rfl rfl)
theorem dX1_init_113 : decode cX1_init 113 = .ok (.sipush 11000, 3) := dk_17 42 248 (dk_at dksX1_init_5 0 rfl rfl)
theorem dX1_init_116 : decode cX1_init 116 = .ok (.invokespecial 48, 3) := dk_183 0 48 (dk_at dksX1_init_5 3 rfl rfl)
theorem dX1_init_119 : decode cX1_init 119 = .ok (.invokeinterface 51 2, 5) := by decide +kernel
theorem dX1_init_124 : decode cX1_init 124 = .ok (.pop, 1) := dk_87 (dk_at dksX1_init_5 11 rfl rfl)
theorem dX1_init_125 : decode cX1_init 125 = .ok (.iinc 1 1, 3) := dk_132 1 1 (dk_at dksX1_init_5 12 rfl rfl)
theorem dX1_init_128 : decode cX1_init 128 = .ok (.goto (-30), 3) := dk_167 255 226 (dk_at dksX1_init_5 15 rfl rfl)
theorem dX1_init_131 : decode cX1_init 131 = .ok (.return_, 1) := dk_177 (dk_at dksX1_init_5 18 rfl rfl)
abbrev cX1_scrap : ByteArray := prog_1_method_22_code
def yX1_scrap : MethodName := ⟨RX1, "scrap", "()I"⟩
def dkwX1_scrap_0 : List UInt8 := [42, 180, 0, 34, 185, 0, 157, 1, 0, 60, 42, 180, 0, 34, 185, 0, 160, 1, 0, 27, 172]
abbrev dktX1_scrap_0 : List UInt8 := dkwX1_scrap_0 ++ []
theorem dksX1_scrap_0 : cX1_scrap.data.toList.drop 0 = dktX1_scrap_0 := by decide +kernel
theorem dX1_scrap_0 : decode cX1_scrap 0 = .ok (.aload_n 0, 1) := dk_42 (dk_at dksX1_scrap_0 0 rfl rfl)
theorem dX1_scrap_1 : decode cX1_scrap 1 = .ok (.getfield 34, 3) := dk_180 0 34 (dk_at dksX1_scrap_0 1 rfl rfl)
theorem dX1_scrap_4 : decode cX1_scrap 4 = .ok (.invokeinterface 157 1, 5) := by decide +kernel
theorem dX1_scrap_9 : decode cX1_scrap 9 = .ok (.istore_n 1, 1) := dk_60 (dk_at dksX1_scrap_0 9 rfl rfl)
theorem dX1_scrap_10 : decode cX1_scrap 10 = .ok (.aload_n 0, 1) := dk_42 (dk_at dksX1_scrap_0 10 rfl rfl)
theorem dX1_scrap_11 : decode cX1_scrap 11 = .ok (.getfield 34, 3) := dk_180 0 34 (dk_at dksX1_scrap_0 11 rfl rfl)
theorem dX1_scrap_14 : decode cX1_scrap 14 = .ok (.invokeinterface 160 1, 5) := by decide +kernel
theorem dX1_scrap_19 : decode cX1_scrap 19 = .ok (.iload_n 1, 1) := dk_27 (dk_at dksX1_scrap_0 19 rfl rfl)
theorem dX1_scrap_20 : decode cX1_scrap 20 = .ok (.ireturn, 1) := dk_172 (dk_at dksX1_scrap_0 20 rfl rfl)
abbrev cX1_events : ByteArray := prog_1_method_24_code
def yX1_events : MethodName := ⟨RX1, "events", "()I"⟩
def dkwX1_events_0 : List UInt8 := [42, 180, 0, 20, 185, 0, 157, 1, 0, 172]
abbrev dktX1_events_0 : List UInt8 := dkwX1_events_0 ++ []
theorem dksX1_events_0 : cX1_events.data.toList.drop 0 = dktX1_events_0 := by decide +kernel
theorem dX1_events_0 : decode cX1_events 0 = .ok (.aload_n 0, 1) := dk_42 (dk_at dksX1_events_0 0 rfl rfl)
theorem dX1_events_1 : decode cX1_events 1 = .ok (.getfield 20, 3) := dk_180 0 20 (dk_at dksX1_events_0 1 rfl rfl)
theorem dX1_events_4 : decode cX1_events 4 = .ok (.invokeinterface 157 1, 5) := by decide +kernel
theorem dX1_events_9 : decode cX1_events 9 = .ok (.ireturn, 1) := dk_172 (dk_at dksX1_events_0 9 rfl rfl)
abbrev cX1_dropped : ByteArray := prog_1_method_25_code
def yX1_dropped : MethodName := ⟨RX1, "dropped", "()I"⟩
theorem dX1_dropped_0 : decode cX1_dropped 0 = .ok (.aload_n 0, 1) := by decide +kernel
theorem dX1_dropped_1 : decode cX1_dropped 1 = .ok (.getfield 89, 3) := by decide +kernel
theorem dX1_dropped_4 : decode cX1_dropped 4 = .ok (.ireturn, 1) := by decide +kernel
abbrev cX1_present : ByteArray := prog_1_method_26_code
def yX1_present : MethodName := ⟨RX1, "present", "()I"⟩
theorem dX1_present_0 : decode cX1_present 0 = .ok (.aload_n 0, 1) := by decide +kernel
theorem dX1_present_1 : decode cX1_present 1 = .ok (.getfield 172, 3) := by decide +kernel
theorem dX1_present_4 : decode cX1_present 4 = .ok (.ireturn, 1) := by decide +kernel
abbrev cX1_parts : ByteArray := prog_1_method_40_code
def yX1_parts : MethodName := ⟨RX1, "parts", "()I"⟩
def dkwX1_parts_6 : List UInt8 := [167, 255, 133, 43, 185, 0, 157, 1, 0, 172]
abbrev dktX1_parts_6 : List UInt8 := dkwX1_parts_6 ++ []
def dkwX1_parts_5 : List UInt8 := [132, 7, 1, 167, 255, 211, 21, 6, 153, 0, 12, 43, 25, 5, 185, 0, 51, 2, 0, 87, 167, 255, 166]
abbrev dktX1_parts_5 : List UInt8 := dkwX1_parts_5 ++ dktX1_parts_6
def dkwX1_parts_4 : List UInt8 := [185, 0, 175, 2, 0, 192, 0, 102, 25, 5, 182, 1, 7, 154, 0, 7, 4, 167, 0, 4, 3, 54, 6]
abbrev dktX1_parts_4 : List UInt8 := dkwX1_parts_4 ++ dktX1_parts_5
def dkwX1_parts_3 : List UInt8 := [54, 6, 3, 54, 7, 21, 7, 43, 185, 0, 157, 1, 0, 162, 0, 40, 21, 6, 153, 0, 35, 43, 21, 7]
abbrev dktX1_parts_3 : List UInt8 := dkwX1_parts_3 ++ dktX1_parts_4
def dkwX1_parts_2 : List UInt8 := [25, 4, 185, 0, 204, 1, 0, 153, 0, 86, 25, 4, 185, 0, 210, 1, 0, 192, 0, 102, 58, 5, 4]
abbrev dktX1_parts_2 : List UInt8 := dkwX1_parts_2 ++ dktX1_parts_3
def dkwX1_parts_1 : List UInt8 := [153, 0, 120, 44, 185, 0, 210, 1, 0, 192, 0, 163, 78, 45, 180, 1, 6, 185, 0, 200, 1, 0, 58, 4]
abbrev dktX1_parts_1 : List UInt8 := dkwX1_parts_1 ++ dktX1_parts_2
def dkwX1_parts_0 : List UInt8 := [187, 0, 17, 89, 183, 0, 19, 76, 42, 180, 0, 37, 185, 0, 200, 1, 0, 77, 44, 185, 0, 204, 1, 0]
abbrev dktX1_parts_0 : List UInt8 := dkwX1_parts_0 ++ dktX1_parts_1
theorem dksX1_parts_0 : cX1_parts.data.toList.drop 0 = dktX1_parts_0 := by decide +kernel
theorem dksX1_parts_1 : cX1_parts.data.toList.drop 24 = dktX1_parts_1 := dk_seg dksX1_parts_0 24 rfl rfl
theorem dksX1_parts_2 : cX1_parts.data.toList.drop 48 = dktX1_parts_2 := dk_seg dksX1_parts_1 24 rfl rfl
theorem dksX1_parts_3 : cX1_parts.data.toList.drop 71 = dktX1_parts_3 := dk_seg dksX1_parts_2 23 rfl rfl
theorem dksX1_parts_4 : cX1_parts.data.toList.drop 95 = dktX1_parts_4 := dk_seg dksX1_parts_3 24 rfl rfl
theorem dksX1_parts_5 : cX1_parts.data.toList.drop 118 = dktX1_parts_5 := dk_seg dksX1_parts_4 23 rfl rfl
theorem dksX1_parts_6 : cX1_parts.data.toList.drop 141 = dktX1_parts_6 := dk_seg dksX1_parts_5 23 rfl rfl
theorem dX1_parts_0 : decode cX1_parts 0 = .ok (.new 17, 3) := dk_187 0 17 (dk_at dksX1_parts_0 0 rfl rfl)
theorem dX1_parts_3 : decode cX1_parts 3 = .ok (.dup, 1) := dk_89 (dk_at dksX1_parts_0 3 rfl rfl)
theorem dX1_parts_4 : decode cX1_parts 4 = .ok (.invokespecial 19, 3) := dk_183 0 19 (dk_at dksX1_parts_0 4 rfl rfl)
theorem dX1_parts_7 : decode cX1_parts 7 = .ok (.astore_n 1, 1) := dk_76 (dk_at dksX1_parts_0 7 rfl rfl)
theorem dX1_parts_8 : decode cX1_parts 8 = .ok (.aload_n 0, 1) := dk_42 (dk_at dksX1_parts_0 8 rfl rfl)
theorem dX1_parts_9 : decode cX1_parts 9 = .ok (.getfield 37, 3) := dk_180 0 37 (dk_at dksX1_parts_0 9 rfl rfl)
theorem dX1_parts_12 : decode cX1_parts 12 = .ok (.invokeinterface 200 1, 5) := by decide +kernel
theorem dX1_parts_17 : decode cX1_parts 17 = .ok (.astore_n 2, 1) := dk_77 (dk_at dksX1_parts_0 17 rfl rfl)
theorem dX1_parts_18 : decode cX1_parts 18 = .ok (.aload_n 2, 1) := dk_44 (dk_at dksX1_parts_0 18 rfl rfl)
theorem dX1_parts_19 : decode cX1_parts 19 = .ok (.invokeinterface 204 1, 5) := by decide +kernel
theorem dX1_parts_24 : decode cX1_parts 24 = .ok (.ifCond .eq 120, 3) := dk_153 0 120 (dk_at dksX1_parts_1 0 rfl rfl)
theorem dX1_parts_27 : decode cX1_parts 27 = .ok (.aload_n 2, 1) := dk_44 (dk_at dksX1_parts_1 3 rfl rfl)
theorem dX1_parts_28 : decode cX1_parts 28 = .ok (.invokeinterface 210 1, 5) := by decide +kernel
theorem dX1_parts_33 : decode cX1_parts 33 = .ok (.checkcast 163, 3) := dk_192 0 163 (dk_at dksX1_parts_1 9 rfl rfl)
theorem dX1_parts_36 : decode cX1_parts 36 = .ok (.astore_n 3, 1) := dk_78 (dk_at dksX1_parts_1 12 rfl rfl)
theorem dX1_parts_37 : decode cX1_parts 37 = .ok (.aload_n 3, 1) := dk_45 (dk_at dksX1_parts_1 13 rfl rfl)
theorem dX1_parts_38 : decode cX1_parts 38 = .ok (.getfield 262, 3) := dk_180 1 6 (dk_at dksX1_parts_1 14 rfl rfl)
theorem dX1_parts_41 : decode cX1_parts 41 = .ok (.invokeinterface 200 1, 5) := by decide +kernel
theorem dX1_parts_46 : decode cX1_parts 46 = .ok (.astore 4, 2) := dk_58 4 (dk_at dksX1_parts_1 22 rfl rfl)
theorem dX1_parts_48 : decode cX1_parts 48 = .ok (.aload 4, 2) := dk_25 4 (dk_at dksX1_parts_2 0 rfl rfl)
theorem dX1_parts_50 : decode cX1_parts 50 = .ok (.invokeinterface 204 1, 5) := by decide +kernel
theorem dX1_parts_55 : decode cX1_parts 55 = .ok (.ifCond .eq 86, 3) := dk_153 0 86 (dk_at dksX1_parts_2 7 rfl rfl)
theorem dX1_parts_58 : decode cX1_parts 58 = .ok (.aload 4, 2) := dk_25 4 (dk_at dksX1_parts_2 10 rfl rfl)
theorem dX1_parts_60 : decode cX1_parts 60 = .ok (.invokeinterface 210 1, 5) := by decide +kernel
theorem dX1_parts_65 : decode cX1_parts 65 = .ok (.checkcast 102, 3) := dk_192 0 102 (dk_at dksX1_parts_2 17 rfl rfl)
theorem dX1_parts_68 : decode cX1_parts 68 = .ok (.astore 5, 2) := dk_58 5 (dk_at dksX1_parts_2 20 rfl rfl)
theorem dX1_parts_70 : decode cX1_parts 70 = .ok (.iconst 1, 1) := dk_4 (dk_at dksX1_parts_2 22 rfl rfl)
theorem dX1_parts_71 : decode cX1_parts 71 = .ok (.istore 6, 2) := dk_54 6 (dk_at dksX1_parts_3 0 rfl rfl)
theorem dX1_parts_73 : decode cX1_parts 73 = .ok (.iconst 0, 1) := dk_3 (dk_at dksX1_parts_3 2 rfl rfl)
theorem dX1_parts_74 : decode cX1_parts 74 = .ok (.istore 7, 2) := dk_54 7 (dk_at dksX1_parts_3 3 rfl rfl)
theorem dX1_parts_76 : decode cX1_parts 76 = .ok (.iload 7, 2) := dk_21 7 (dk_at dksX1_parts_3 5 rfl rfl)
theorem dX1_parts_78 : decode cX1_parts 78 = .ok (.aload_n 1, 1) := dk_43 (dk_at dksX1_parts_3 7 rfl rfl)
theorem dX1_parts_79 : decode cX1_parts 79 = .ok (.invokeinterface 157 1, 5) := by decide +kernel
theorem dX1_parts_84 : decode cX1_parts 84 = .ok (.if_icmp .ge 40, 3) := dk_162 0 40 (dk_at dksX1_parts_3 13 rfl rfl)
theorem dX1_parts_87 : decode cX1_parts 87 = .ok (.iload 6, 2) := dk_21 6 (dk_at dksX1_parts_3 16 rfl rfl)
theorem dX1_parts_89 : decode cX1_parts 89 = .ok (.ifCond .eq 35, 3) := dk_153 0 35 (dk_at dksX1_parts_3 18 rfl rfl)
theorem dX1_parts_92 : decode cX1_parts 92 = .ok (.aload_n 1, 1) := dk_43 (dk_at dksX1_parts_3 21 rfl rfl)
theorem dX1_parts_93 : decode cX1_parts 93 = .ok (.iload 7, 2) := dk_21 7 (dk_at dksX1_parts_3 22 rfl rfl)
theorem dX1_parts_95 : decode cX1_parts 95 = .ok (.invokeinterface 175 2, 5) := by decide +kernel
theorem dX1_parts_100 : decode cX1_parts 100 = .ok (.checkcast 102, 3) := dk_192 0 102 (dk_at dksX1_parts_4 5 rfl rfl)
theorem dX1_parts_103 : decode cX1_parts 103 = .ok (.aload 5, 2) := dk_25 5 (dk_at dksX1_parts_4 8 rfl rfl)
theorem dX1_parts_105 : decode cX1_parts 105 = .ok (.invokevirtual 263, 3) := dk_182 1 7 (dk_at dksX1_parts_4 10 rfl rfl)
theorem dX1_parts_108 : decode cX1_parts 108 = .ok (.ifCond .ne 7, 3) := dk_154 0 7 (dk_at dksX1_parts_4 13 rfl rfl)
theorem dX1_parts_111 : decode cX1_parts 111 = .ok (.iconst 1, 1) := dk_4 (dk_at dksX1_parts_4 16 rfl rfl)
theorem dX1_parts_112 : decode cX1_parts 112 = .ok (.goto 4, 3) := dk_167 0 4 (dk_at dksX1_parts_4 17 rfl rfl)
theorem dX1_parts_115 : decode cX1_parts 115 = .ok (.iconst 0, 1) := dk_3 (dk_at dksX1_parts_4 20 rfl rfl)
theorem dX1_parts_116 : decode cX1_parts 116 = .ok (.istore 6, 2) := dk_54 6 (dk_at dksX1_parts_4 21 rfl rfl)
theorem dX1_parts_118 : decode cX1_parts 118 = .ok (.iinc 7 1, 3) := dk_132 7 1 (dk_at dksX1_parts_5 0 rfl rfl)
theorem dX1_parts_121 : decode cX1_parts 121 = .ok (.goto (-45), 3) := dk_167 255 211 (dk_at dksX1_parts_5 3 rfl rfl)
theorem dX1_parts_124 : decode cX1_parts 124 = .ok (.iload 6, 2) := dk_21 6 (dk_at dksX1_parts_5 6 rfl rfl)
theorem dX1_parts_126 : decode cX1_parts 126 = .ok (.ifCond .eq 12, 3) := dk_153 0 12 (dk_at dksX1_parts_5 8 rfl rfl)
theorem dX1_parts_129 : decode cX1_parts 129 = .ok (.aload_n 1, 1) := dk_43 (dk_at dksX1_parts_5 11 rfl rfl)
theorem dX1_parts_130 : decode cX1_parts 130 = .ok (.aload 5, 2) := dk_25 5 (dk_at dksX1_parts_5 12 rfl rfl)
theorem dX1_parts_132 : decode cX1_parts 132 = .ok (.invokeinterface 51 2, 5) := by decide +kernel
theorem dX1_parts_137 : decode cX1_parts 137 = .ok (.pop, 1) := dk_87 (dk_at dksX1_parts_5 19 rfl rfl)
theorem dX1_parts_138 : decode cX1_parts 138 = .ok (.goto (-90), 3) := dk_167 255 166 (dk_at dksX1_parts_5 20 rfl rfl)
theorem dX1_parts_141 : decode cX1_parts 141 = .ok (.goto (-123), 3) := dk_167 255 133 (dk_at dksX1_parts_6 0 rfl rfl)
theorem dX1_parts_144 : decode cX1_parts 144 = .ok (.aload_n 1, 1) := dk_43 (dk_at dksX1_parts_6 3 rfl rfl)
theorem dX1_parts_145 : decode cX1_parts 145 = .ok (.invokeinterface 157 1, 5) := by decide +kernel
theorem dX1_parts_150 : decode cX1_parts 150 = .ok (.ireturn, 1) := dk_172 (dk_at dksX1_parts_6 9 rfl rfl)
abbrev cX1_orders : ByteArray := prog_1_method_41_code
def yX1_orders : MethodName := ⟨RX1, "orders", "()I"⟩
theorem dX1_orders_0 : decode cX1_orders 0 = .ok (.aload_n 0, 1) := by decide +kernel
theorem dX1_orders_1 : decode cX1_orders 1 = .ok (.invokevirtual 267, 3) := by decide +kernel
theorem dX1_orders_4 : decode cX1_orders 4 = .ok (.ireturn, 1) := by decide +kernel
abbrev cX1_orderMany : ByteArray := prog_1_method_60_code
def yX1_orderMany : MethodName := ⟨RX1, "orderMany", "()I"⟩
def dkwX1_orderMany_0 : List UInt8 := [187, 1, 14, 89, 42, 1, 1, 2, 183, 1, 16, 76, 43, 182, 1, 19, 43, 180, 1, 79, 172]
abbrev dktX1_orderMany_0 : List UInt8 := dkwX1_orderMany_0 ++ []
theorem dksX1_orderMany_0 : cX1_orderMany.data.toList.drop 0 = dktX1_orderMany_0 := by decide +kernel
theorem dX1_orderMany_0 : decode cX1_orderMany 0 = .ok (.new 270, 3) := dk_187 1 14 (dk_at dksX1_orderMany_0 0 rfl rfl)
theorem dX1_orderMany_3 : decode cX1_orderMany 3 = .ok (.dup, 1) := dk_89 (dk_at dksX1_orderMany_0 3 rfl rfl)
theorem dX1_orderMany_4 : decode cX1_orderMany 4 = .ok (.aload_n 0, 1) := dk_42 (dk_at dksX1_orderMany_0 4 rfl rfl)
theorem dX1_orderMany_5 : decode cX1_orderMany 5 = .ok (.aconst_null, 1) := dk_1 (dk_at dksX1_orderMany_0 5 rfl rfl)
theorem dX1_orderMany_6 : decode cX1_orderMany 6 = .ok (.aconst_null, 1) := dk_1 (dk_at dksX1_orderMany_0 6 rfl rfl)
theorem dX1_orderMany_7 : decode cX1_orderMany 7 = .ok (.iconst (-1), 1) := dk_2 (dk_at dksX1_orderMany_0 7 rfl rfl)
theorem dX1_orderMany_8 : decode cX1_orderMany 8 = .ok (.invokespecial 272, 3) := dk_183 1 16 (dk_at dksX1_orderMany_0 8 rfl rfl)
theorem dX1_orderMany_11 : decode cX1_orderMany 11 = .ok (.astore_n 1, 1) := dk_76 (dk_at dksX1_orderMany_0 11 rfl rfl)
theorem dX1_orderMany_12 : decode cX1_orderMany 12 = .ok (.aload_n 1, 1) := dk_43 (dk_at dksX1_orderMany_0 12 rfl rfl)
theorem dX1_orderMany_13 : decode cX1_orderMany 13 = .ok (.invokevirtual 275, 3) := dk_182 1 19 (dk_at dksX1_orderMany_0 13 rfl rfl)
theorem dX1_orderMany_16 : decode cX1_orderMany 16 = .ok (.aload_n 1, 1) := dk_43 (dk_at dksX1_orderMany_0 16 rfl rfl)
theorem dX1_orderMany_17 : decode cX1_orderMany 17 = .ok (.getfield 335, 3) := dk_180 1 79 (dk_at dksX1_orderMany_0 17 rfl rfl)
theorem dX1_orderMany_20 : decode cX1_orderMany 20 = .ok (.ireturn, 1) := dk_172 (dk_at dksX1_orderMany_0 20 rfl rfl)
abbrev cX1_ids : ByteArray := prog_1_method_59_code
def yX1_ids : MethodName := ⟨RX1, "ids", "()I"⟩
def dkwX1_ids_2 : List UInt8 := [28, 185, 0, 175, 2, 0, 192, 0, 81, 180, 1, 72, 120, 128, 60, 132, 2, 1, 167, 255, 195, 27, 172]
abbrev dktX1_ids_2 : List UInt8 := dkwX1_ids_2 ++ []
def dkwX1_ids_1 : List UInt8 := [185, 0, 175, 2, 0, 192, 0, 81, 180, 1, 72, 2, 160, 0, 7, 3, 167, 0, 21, 4, 42, 180, 0, 20]
abbrev dktX1_ids_1 : List UInt8 := dkwX1_ids_1 ++ dktX1_ids_2
def dkwX1_ids_0 : List UInt8 := [3, 60, 3, 61, 28, 42, 180, 0, 20, 185, 0, 157, 1, 0, 162, 0, 54, 27, 42, 180, 0, 20, 28]
abbrev dktX1_ids_0 : List UInt8 := dkwX1_ids_0 ++ dktX1_ids_1
theorem dksX1_ids_0 : cX1_ids.data.toList.drop 0 = dktX1_ids_0 := by decide +kernel
theorem dksX1_ids_1 : cX1_ids.data.toList.drop 23 = dktX1_ids_1 := dk_seg dksX1_ids_0 23 rfl rfl
theorem dksX1_ids_2 : cX1_ids.data.toList.drop 47 = dktX1_ids_2 := dk_seg dksX1_ids_1 24 rfl rfl
theorem dX1_ids_0 : decode cX1_ids 0 = .ok (.iconst 0, 1) := dk_3 (dk_at dksX1_ids_0 0 rfl rfl)
theorem dX1_ids_1 : decode cX1_ids 1 = .ok (.istore_n 1, 1) := dk_60 (dk_at dksX1_ids_0 1 rfl rfl)
theorem dX1_ids_2 : decode cX1_ids 2 = .ok (.iconst 0, 1) := dk_3 (dk_at dksX1_ids_0 2 rfl rfl)
theorem dX1_ids_3 : decode cX1_ids 3 = .ok (.istore_n 2, 1) := dk_61 (dk_at dksX1_ids_0 3 rfl rfl)
theorem dX1_ids_4 : decode cX1_ids 4 = .ok (.iload_n 2, 1) := dk_28 (dk_at dksX1_ids_0 4 rfl rfl)
theorem dX1_ids_5 : decode cX1_ids 5 = .ok (.aload_n 0, 1) := dk_42 (dk_at dksX1_ids_0 5 rfl rfl)
theorem dX1_ids_6 : decode cX1_ids 6 = .ok (.getfield 20, 3) := dk_180 0 20 (dk_at dksX1_ids_0 6 rfl rfl)
theorem dX1_ids_9 : decode cX1_ids 9 = .ok (.invokeinterface 157 1, 5) := by decide +kernel
theorem dX1_ids_14 : decode cX1_ids 14 = .ok (.if_icmp .ge 54, 3) := dk_162 0 54 (dk_at dksX1_ids_0 14 rfl rfl)
theorem dX1_ids_17 : decode cX1_ids 17 = .ok (.iload_n 1, 1) := dk_27 (dk_at dksX1_ids_0 17 rfl rfl)
theorem dX1_ids_18 : decode cX1_ids 18 = .ok (.aload_n 0, 1) := dk_42 (dk_at dksX1_ids_0 18 rfl rfl)
theorem dX1_ids_19 : decode cX1_ids 19 = .ok (.getfield 20, 3) := dk_180 0 20 (dk_at dksX1_ids_0 19 rfl rfl)
theorem dX1_ids_22 : decode cX1_ids 22 = .ok (.iload_n 2, 1) := dk_28 (dk_at dksX1_ids_0 22 rfl rfl)
theorem dX1_ids_23 : decode cX1_ids 23 = .ok (.invokeinterface 175 2, 5) := by decide +kernel
theorem dX1_ids_28 : decode cX1_ids 28 = .ok (.checkcast 81, 3) := dk_192 0 81 (dk_at dksX1_ids_1 5 rfl rfl)
theorem dX1_ids_31 : decode cX1_ids 31 = .ok (.getfield 328, 3) := dk_180 1 72 (dk_at dksX1_ids_1 8 rfl rfl)
theorem dX1_ids_34 : decode cX1_ids 34 = .ok (.iconst (-1), 1) := dk_2 (dk_at dksX1_ids_1 11 rfl rfl)
theorem dX1_ids_35 : decode cX1_ids 35 = .ok (.if_icmp .ne 7, 3) := dk_160 0 7 (dk_at dksX1_ids_1 12 rfl rfl)
theorem dX1_ids_38 : decode cX1_ids 38 = .ok (.iconst 0, 1) := dk_3 (dk_at dksX1_ids_1 15 rfl rfl)
theorem dX1_ids_39 : decode cX1_ids 39 = .ok (.goto 21, 3) := dk_167 0 21 (dk_at dksX1_ids_1 16 rfl rfl)
theorem dX1_ids_42 : decode cX1_ids 42 = .ok (.iconst 1, 1) := dk_4 (dk_at dksX1_ids_1 19 rfl rfl)
theorem dX1_ids_43 : decode cX1_ids 43 = .ok (.aload_n 0, 1) := dk_42 (dk_at dksX1_ids_1 20 rfl rfl)
theorem dX1_ids_44 : decode cX1_ids 44 = .ok (.getfield 20, 3) := dk_180 0 20 (dk_at dksX1_ids_1 21 rfl rfl)
theorem dX1_ids_47 : decode cX1_ids 47 = .ok (.iload_n 2, 1) := dk_28 (dk_at dksX1_ids_2 0 rfl rfl)
theorem dX1_ids_48 : decode cX1_ids 48 = .ok (.invokeinterface 175 2, 5) := by decide +kernel
theorem dX1_ids_53 : decode cX1_ids 53 = .ok (.checkcast 81, 3) := dk_192 0 81 (dk_at dksX1_ids_2 6 rfl rfl)
theorem dX1_ids_56 : decode cX1_ids 56 = .ok (.getfield 328, 3) := dk_180 1 72 (dk_at dksX1_ids_2 9 rfl rfl)
theorem dX1_ids_59 : decode cX1_ids 59 = .ok (.ishl, 1) := dk_120 (dk_at dksX1_ids_2 12 rfl rfl)
theorem dX1_ids_60 : decode cX1_ids 60 = .ok (.ior, 1) := dk_128 (dk_at dksX1_ids_2 13 rfl rfl)
theorem dX1_ids_61 : decode cX1_ids 61 = .ok (.istore_n 1, 1) := dk_60 (dk_at dksX1_ids_2 14 rfl rfl)
theorem dX1_ids_62 : decode cX1_ids 62 = .ok (.iinc 2 1, 3) := dk_132 2 1 (dk_at dksX1_ids_2 15 rfl rfl)
theorem dX1_ids_65 : decode cX1_ids 65 = .ok (.goto (-61), 3) := dk_167 255 195 (dk_at dksX1_ids_2 18 rfl rfl)
theorem dX1_ids_68 : decode cX1_ids 68 = .ok (.iload_n 1, 1) := dk_27 (dk_at dksX1_ids_2 21 rfl rfl)
theorem dX1_ids_69 : decode cX1_ids 69 = .ok (.ireturn, 1) := dk_172 (dk_at dksX1_ids_2 22 rfl rfl)
abbrev cX1_negated : ByteArray := prog_1_method_1_code
def yX1_negated : MethodName := ⟨RX1, "negated", "(I)I"⟩
def dkwX1_negated_0 : List UInt8 := [26, 5, 160, 0, 7, 5, 167, 0, 6, 4, 26, 100, 172]
abbrev dktX1_negated_0 : List UInt8 := dkwX1_negated_0 ++ []
theorem dksX1_negated_0 : cX1_negated.data.toList.drop 0 = dktX1_negated_0 := by decide +kernel
theorem dX1_negated_0 : decode cX1_negated 0 = .ok (.iload_n 0, 1) := dk_26 (dk_at dksX1_negated_0 0 rfl rfl)
theorem dX1_negated_1 : decode cX1_negated 1 = .ok (.iconst 2, 1) := dk_5 (dk_at dksX1_negated_0 1 rfl rfl)
theorem dX1_negated_2 : decode cX1_negated 2 = .ok (.if_icmp .ne 7, 3) := dk_160 0 7 (dk_at dksX1_negated_0 2 rfl rfl)
theorem dX1_negated_5 : decode cX1_negated 5 = .ok (.iconst 2, 1) := dk_5 (dk_at dksX1_negated_0 5 rfl rfl)
theorem dX1_negated_6 : decode cX1_negated 6 = .ok (.goto 6, 3) := dk_167 0 6 (dk_at dksX1_negated_0 6 rfl rfl)
theorem dX1_negated_9 : decode cX1_negated 9 = .ok (.iconst 1, 1) := dk_4 (dk_at dksX1_negated_0 9 rfl rfl)
theorem dX1_negated_10 : decode cX1_negated 10 = .ok (.iload_n 0, 1) := dk_26 (dk_at dksX1_negated_0 10 rfl rfl)
theorem dX1_negated_11 : decode cX1_negated 11 = .ok (.isub, 1) := dk_100 (dk_at dksX1_negated_0 11 rfl rfl)
theorem dX1_negated_12 : decode cX1_negated 12 = .ok (.ireturn, 1) := dk_172 (dk_at dksX1_negated_0 12 rfl rfl)
abbrev cX1_and : ByteArray := prog_1_method_2_code
def yX1_and : MethodName := ⟨RX1, "and", "(II)I"⟩
def dkwX1_and_1 : List UInt8 := [167, 0, 4, 4, 172]
abbrev dktX1_and_1 : List UInt8 := dkwX1_and_1 ++ []
def dkwX1_and_0 : List UInt8 := [26, 153, 0, 7, 27, 154, 0, 7, 3, 167, 0, 18, 26, 5, 159, 0, 8, 27, 5, 160, 0, 7, 5]
abbrev dktX1_and_0 : List UInt8 := dkwX1_and_0 ++ dktX1_and_1
theorem dksX1_and_0 : cX1_and.data.toList.drop 0 = dktX1_and_0 := by decide +kernel
theorem dksX1_and_1 : cX1_and.data.toList.drop 23 = dktX1_and_1 := dk_seg dksX1_and_0 23 rfl rfl
theorem dX1_and_0 : decode cX1_and 0 = .ok (.iload_n 0, 1) := dk_26 (dk_at dksX1_and_0 0 rfl rfl)
theorem dX1_and_1 : decode cX1_and 1 = .ok (.ifCond .eq 7, 3) := dk_153 0 7 (dk_at dksX1_and_0 1 rfl rfl)
theorem dX1_and_4 : decode cX1_and 4 = .ok (.iload_n 1, 1) := dk_27 (dk_at dksX1_and_0 4 rfl rfl)
theorem dX1_and_5 : decode cX1_and 5 = .ok (.ifCond .ne 7, 3) := dk_154 0 7 (dk_at dksX1_and_0 5 rfl rfl)
theorem dX1_and_8 : decode cX1_and 8 = .ok (.iconst 0, 1) := dk_3 (dk_at dksX1_and_0 8 rfl rfl)
theorem dX1_and_9 : decode cX1_and 9 = .ok (.goto 18, 3) := dk_167 0 18 (dk_at dksX1_and_0 9 rfl rfl)
theorem dX1_and_12 : decode cX1_and 12 = .ok (.iload_n 0, 1) := dk_26 (dk_at dksX1_and_0 12 rfl rfl)
theorem dX1_and_13 : decode cX1_and 13 = .ok (.iconst 2, 1) := dk_5 (dk_at dksX1_and_0 13 rfl rfl)
theorem dX1_and_14 : decode cX1_and 14 = .ok (.if_icmp .eq 8, 3) := dk_159 0 8 (dk_at dksX1_and_0 14 rfl rfl)
theorem dX1_and_17 : decode cX1_and 17 = .ok (.iload_n 1, 1) := dk_27 (dk_at dksX1_and_0 17 rfl rfl)
theorem dX1_and_18 : decode cX1_and 18 = .ok (.iconst 2, 1) := dk_5 (dk_at dksX1_and_0 18 rfl rfl)
theorem dX1_and_19 : decode cX1_and 19 = .ok (.if_icmp .ne 7, 3) := dk_160 0 7 (dk_at dksX1_and_0 19 rfl rfl)
theorem dX1_and_22 : decode cX1_and 22 = .ok (.iconst 2, 1) := dk_5 (dk_at dksX1_and_0 22 rfl rfl)
theorem dX1_and_23 : decode cX1_and 23 = .ok (.goto 4, 3) := dk_167 0 4 (dk_at dksX1_and_1 0 rfl rfl)
theorem dX1_and_26 : decode cX1_and 26 = .ok (.iconst 1, 1) := dk_4 (dk_at dksX1_and_1 3 rfl rfl)
theorem dX1_and_27 : decode cX1_and 27 = .ok (.ireturn, 1) := dk_172 (dk_at dksX1_and_1 4 rfl rfl)
abbrev cX1_or : ByteArray := prog_1_method_3_code
def yX1_or : MethodName := ⟨RX1, "or", "(II)I"⟩
def dkwX1_or_1 : List UInt8 := [5, 167, 0, 4, 3, 172]
abbrev dktX1_or_1 : List UInt8 := dkwX1_or_1 ++ []
def dkwX1_or_0 : List UInt8 := [26, 4, 159, 0, 8, 27, 4, 160, 0, 7, 4, 167, 0, 18, 26, 5, 159, 0, 8, 27, 5, 160, 0, 7]
abbrev dktX1_or_0 : List UInt8 := dkwX1_or_0 ++ dktX1_or_1
theorem dksX1_or_0 : cX1_or.data.toList.drop 0 = dktX1_or_0 := by decide +kernel
theorem dksX1_or_1 : cX1_or.data.toList.drop 24 = dktX1_or_1 := dk_seg dksX1_or_0 24 rfl rfl
theorem dX1_or_0 : decode cX1_or 0 = .ok (.iload_n 0, 1) := dk_26 (dk_at dksX1_or_0 0 rfl rfl)
theorem dX1_or_1 : decode cX1_or 1 = .ok (.iconst 1, 1) := dk_4 (dk_at dksX1_or_0 1 rfl rfl)
theorem dX1_or_2 : decode cX1_or 2 = .ok (.if_icmp .eq 8, 3) := dk_159 0 8 (dk_at dksX1_or_0 2 rfl rfl)
theorem dX1_or_5 : decode cX1_or 5 = .ok (.iload_n 1, 1) := dk_27 (dk_at dksX1_or_0 5 rfl rfl)
theorem dX1_or_6 : decode cX1_or 6 = .ok (.iconst 1, 1) := dk_4 (dk_at dksX1_or_0 6 rfl rfl)
theorem dX1_or_7 : decode cX1_or 7 = .ok (.if_icmp .ne 7, 3) := dk_160 0 7 (dk_at dksX1_or_0 7 rfl rfl)
theorem dX1_or_10 : decode cX1_or 10 = .ok (.iconst 1, 1) := dk_4 (dk_at dksX1_or_0 10 rfl rfl)
theorem dX1_or_11 : decode cX1_or 11 = .ok (.goto 18, 3) := dk_167 0 18 (dk_at dksX1_or_0 11 rfl rfl)
theorem dX1_or_14 : decode cX1_or 14 = .ok (.iload_n 0, 1) := dk_26 (dk_at dksX1_or_0 14 rfl rfl)
theorem dX1_or_15 : decode cX1_or 15 = .ok (.iconst 2, 1) := dk_5 (dk_at dksX1_or_0 15 rfl rfl)
theorem dX1_or_16 : decode cX1_or 16 = .ok (.if_icmp .eq 8, 3) := dk_159 0 8 (dk_at dksX1_or_0 16 rfl rfl)
theorem dX1_or_19 : decode cX1_or 19 = .ok (.iload_n 1, 1) := dk_27 (dk_at dksX1_or_0 19 rfl rfl)
theorem dX1_or_20 : decode cX1_or 20 = .ok (.iconst 2, 1) := dk_5 (dk_at dksX1_or_0 20 rfl rfl)
theorem dX1_or_21 : decode cX1_or 21 = .ok (.if_icmp .ne 7, 3) := dk_160 0 7 (dk_at dksX1_or_0 21 rfl rfl)
theorem dX1_or_24 : decode cX1_or 24 = .ok (.iconst 2, 1) := dk_5 (dk_at dksX1_or_1 0 rfl rfl)
theorem dX1_or_25 : decode cX1_or 25 = .ok (.goto 4, 3) := dk_167 0 4 (dk_at dksX1_or_1 1 rfl rfl)
theorem dX1_or_28 : decode cX1_or 28 = .ok (.iconst 0, 1) := dk_3 (dk_at dksX1_or_1 4 rfl rfl)
theorem dX1_or_29 : decode cX1_or 29 = .ok (.ireturn, 1) := dk_172 (dk_at dksX1_or_1 5 rfl rfl)
abbrev cX1_setOffset : ByteArray := prog_1_method_5_code
def yX1_setOffset : MethodName := ⟨RX1, "setOffset", "(II)I"⟩
def dkwX1_setOffset_1 : List UInt8 := [27, 46, 62, 42, 180, 0, 9, 27, 28, 79, 29, 172]
abbrev dktX1_setOffset_1 : List UInt8 := dkwX1_setOffset_1 ++ []
def dkwX1_setOffset_0 : List UInt8 := [27, 184, 0, 57, 184, 0, 61, 28, 17, 252, 24, 17, 3, 232, 184, 0, 65, 184, 0, 69, 42, 180, 0, 9]
abbrev dktX1_setOffset_0 : List UInt8 := dkwX1_setOffset_0 ++ dktX1_setOffset_1
theorem dksX1_setOffset_0 : cX1_setOffset.data.toList.drop 0 = dktX1_setOffset_0 := by decide +kernel
theorem dksX1_setOffset_1 : cX1_setOffset.data.toList.drop 24 = dktX1_setOffset_1 := dk_seg dksX1_setOffset_0 24 rfl rfl
theorem dX1_setOffset_0 : decode cX1_setOffset 0 = .ok (.iload_n 1, 1) := dk_27 (dk_at dksX1_setOffset_0 0 rfl rfl)
theorem dX1_setOffset_1 : decode cX1_setOffset 1 = .ok (.invokestatic 57, 3) := dk_184 0 57 (dk_at dksX1_setOffset_0 1 rfl rfl)
theorem dX1_setOffset_4 : decode cX1_setOffset 4 = .ok (.invokestatic 61, 3) := dk_184 0 61 (dk_at dksX1_setOffset_0 4 rfl rfl)
theorem dX1_setOffset_7 : decode cX1_setOffset 7 = .ok (.iload_n 2, 1) := dk_28 (dk_at dksX1_setOffset_0 7 rfl rfl)
theorem dX1_setOffset_8 : decode cX1_setOffset 8 = .ok (.sipush (-1000), 3) := dk_17 252 24 (dk_at dksX1_setOffset_0 8 rfl rfl)
theorem dX1_setOffset_11 : decode cX1_setOffset 11 = .ok (.sipush 1000, 3) := dk_17 3 232 (dk_at dksX1_setOffset_0 11 rfl rfl)
theorem dX1_setOffset_14 : decode cX1_setOffset 14 = .ok (.invokestatic 65, 3) := dk_184 0 65 (dk_at dksX1_setOffset_0 14 rfl rfl)
theorem dX1_setOffset_17 : decode cX1_setOffset 17 = .ok (.invokestatic 69, 3) := dk_184 0 69 (dk_at dksX1_setOffset_0 17 rfl rfl)
theorem dX1_setOffset_20 : decode cX1_setOffset 20 = .ok (.aload_n 0, 1) := dk_42 (dk_at dksX1_setOffset_0 20 rfl rfl)
theorem dX1_setOffset_21 : decode cX1_setOffset 21 = .ok (.getfield 9, 3) := dk_180 0 9 (dk_at dksX1_setOffset_0 21 rfl rfl)
theorem dX1_setOffset_24 : decode cX1_setOffset 24 = .ok (.iload_n 1, 1) := dk_27 (dk_at dksX1_setOffset_1 0 rfl rfl)
theorem dX1_setOffset_25 : decode cX1_setOffset 25 = .ok (.iaload, 1) := dk_46 (dk_at dksX1_setOffset_1 1 rfl rfl)
theorem dX1_setOffset_26 : decode cX1_setOffset 26 = .ok (.istore_n 3, 1) := dk_62 (dk_at dksX1_setOffset_1 2 rfl rfl)
theorem dX1_setOffset_27 : decode cX1_setOffset 27 = .ok (.aload_n 0, 1) := dk_42 (dk_at dksX1_setOffset_1 3 rfl rfl)
theorem dX1_setOffset_28 : decode cX1_setOffset 28 = .ok (.getfield 9, 3) := dk_180 0 9 (dk_at dksX1_setOffset_1 4 rfl rfl)
theorem dX1_setOffset_31 : decode cX1_setOffset 31 = .ok (.iload_n 1, 1) := dk_27 (dk_at dksX1_setOffset_1 7 rfl rfl)
theorem dX1_setOffset_32 : decode cX1_setOffset 32 = .ok (.iload_n 2, 1) := dk_28 (dk_at dksX1_setOffset_1 8 rfl rfl)
theorem dX1_setOffset_33 : decode cX1_setOffset 33 = .ok (.iastore, 1) := dk_79 (dk_at dksX1_setOffset_1 9 rfl rfl)
theorem dX1_setOffset_34 : decode cX1_setOffset 34 = .ok (.iload_n 3, 1) := dk_29 (dk_at dksX1_setOffset_1 10 rfl rfl)
theorem dX1_setOffset_35 : decode cX1_setOffset 35 = .ok (.ireturn, 1) := dk_172 (dk_at dksX1_setOffset_1 11 rfl rfl)
abbrev cX1_isNode : ByteArray := prog_1_method_51_code
def yX1_isNode : MethodName := ⟨RX1, "isNode", "(I)Z"⟩
def dkwX1_isNode_0 : List UInt8 := [26, 3, 6, 184, 0, 65, 172]
abbrev dktX1_isNode_0 : List UInt8 := dkwX1_isNode_0 ++ []
theorem dksX1_isNode_0 : cX1_isNode.data.toList.drop 0 = dktX1_isNode_0 := by decide +kernel
theorem dX1_isNode_0 : decode cX1_isNode 0 = .ok (.iload_n 0, 1) := dk_26 (dk_at dksX1_isNode_0 0 rfl rfl)
theorem dX1_isNode_1 : decode cX1_isNode 1 = .ok (.iconst 0, 1) := dk_3 (dk_at dksX1_isNode_0 1 rfl rfl)
theorem dX1_isNode_2 : decode cX1_isNode 2 = .ok (.iconst 3, 1) := dk_6 (dk_at dksX1_isNode_0 2 rfl rfl)
theorem dX1_isNode_3 : decode cX1_isNode 3 = .ok (.invokestatic 65, 3) := dk_184 0 65 (dk_at dksX1_isNode_0 3 rfl rfl)
theorem dX1_isNode_6 : decode cX1_isNode 6 = .ok (.ireturn, 1) := dk_172 (dk_at dksX1_isNode_0 6 rfl rfl)
abbrev cX1_isIn : ByteArray := prog_1_method_50_code
def yX1_isIn : MethodName := ⟨RX1, "isIn", "(III)Z"⟩
def dkwX1_isIn_0 : List UInt8 := [26, 27, 161, 0, 12, 26, 28, 163, 0, 7, 4, 167, 0, 4, 3, 172]
abbrev dktX1_isIn_0 : List UInt8 := dkwX1_isIn_0 ++ []
theorem dksX1_isIn_0 : cX1_isIn.data.toList.drop 0 = dktX1_isIn_0 := by decide +kernel
theorem dX1_isIn_0 : decode cX1_isIn 0 = .ok (.iload_n 0, 1) := dk_26 (dk_at dksX1_isIn_0 0 rfl rfl)
theorem dX1_isIn_1 : decode cX1_isIn 1 = .ok (.iload_n 1, 1) := dk_27 (dk_at dksX1_isIn_0 1 rfl rfl)
theorem dX1_isIn_2 : decode cX1_isIn 2 = .ok (.if_icmp .lt 12, 3) := dk_161 0 12 (dk_at dksX1_isIn_0 2 rfl rfl)
theorem dX1_isIn_5 : decode cX1_isIn 5 = .ok (.iload_n 0, 1) := dk_26 (dk_at dksX1_isIn_0 5 rfl rfl)
theorem dX1_isIn_6 : decode cX1_isIn 6 = .ok (.iload_n 2, 1) := dk_28 (dk_at dksX1_isIn_0 6 rfl rfl)
theorem dX1_isIn_7 : decode cX1_isIn 7 = .ok (.if_icmp .gt 7, 3) := dk_163 0 7 (dk_at dksX1_isIn_0 7 rfl rfl)
theorem dX1_isIn_10 : decode cX1_isIn 10 = .ok (.iconst 1, 1) := dk_4 (dk_at dksX1_isIn_0 10 rfl rfl)
theorem dX1_isIn_11 : decode cX1_isIn 11 = .ok (.goto 4, 3) := dk_167 0 4 (dk_at dksX1_isIn_0 11 rfl rfl)
theorem dX1_isIn_14 : decode cX1_isIn 14 = .ok (.iconst 0, 1) := dk_3 (dk_at dksX1_isIn_0 14 rfl rfl)
theorem dX1_isIn_15 : decode cX1_isIn 15 = .ok (.ireturn, 1) := dk_172 (dk_at dksX1_isIn_0 15 rfl rfl)
abbrev cX1_place : ByteArray := prog_1_method_47_code
def yX1_place : MethodName := ⟨RX1, "place", "(Z)V"⟩
def dkwX1_place_0 : List UInt8 := [26, 154, 0, 14, 187, 1, 29, 89, 19, 1, 31, 183, 1, 33, 191, 177]
abbrev dktX1_place_0 : List UInt8 := dkwX1_place_0 ++ []
theorem dksX1_place_0 : cX1_place.data.toList.drop 0 = dktX1_place_0 := by decide +kernel
theorem dX1_place_0 : decode cX1_place 0 = .ok (.iload_n 0, 1) := dk_26 (dk_at dksX1_place_0 0 rfl rfl)
theorem dX1_place_1 : decode cX1_place 1 = .ok (.ifCond .ne 14, 3) := dk_154 0 14 (dk_at dksX1_place_0 1 rfl rfl)
theorem dX1_place_4 : decode cX1_place 4 = .ok (.new 285, 3) := dk_187 1 29 (dk_at dksX1_place_0 4 rfl rfl)
theorem dX1_place_7 : decode cX1_place 7 = .ok (.dup, 1) := dk_89 (dk_at dksX1_place_0 7 rfl rfl)
theorem dX1_place_8 : decode cX1_place 8 = .ok (.ldc_w 287, 3) := dk_19 1 31 (dk_at dksX1_place_0 8 rfl rfl)
theorem dX1_place_11 : decode cX1_place 11 = .ok (.invokespecial 289, 3) := dk_183 1 33 (dk_at dksX1_place_0 11 rfl rfl)
theorem dX1_place_14 : decode cX1_place 14 = .ok (.athrow, 1) := dk_191 (dk_at dksX1_place_0 14 rfl rfl)
theorem dX1_place_15 : decode cX1_place 15 = .ok (.return_, 1) := dk_177 (dk_at dksX1_place_0 15 rfl rfl)
abbrev cX1_check : ByteArray := prog_1_method_48_code
def yX1_check : MethodName := ⟨RX1, "check", "(Z)V"⟩
def dkwX1_check_0 : List UInt8 := [26, 154, 0, 14, 187, 1, 36, 89, 19, 1, 38, 183, 1, 40, 191, 177]
abbrev dktX1_check_0 : List UInt8 := dkwX1_check_0 ++ []
theorem dksX1_check_0 : cX1_check.data.toList.drop 0 = dktX1_check_0 := by decide +kernel
theorem dX1_check_0 : decode cX1_check 0 = .ok (.iload_n 0, 1) := dk_26 (dk_at dksX1_check_0 0 rfl rfl)
theorem dX1_check_1 : decode cX1_check 1 = .ok (.ifCond .ne 14, 3) := dk_154 0 14 (dk_at dksX1_check_0 1 rfl rfl)
theorem dX1_check_4 : decode cX1_check 4 = .ok (.new 292, 3) := dk_187 1 36 (dk_at dksX1_check_0 4 rfl rfl)
theorem dX1_check_7 : decode cX1_check 7 = .ok (.dup, 1) := dk_89 (dk_at dksX1_check_0 7 rfl rfl)
theorem dX1_check_8 : decode cX1_check 8 = .ok (.ldc_w 294, 3) := dk_19 1 38 (dk_at dksX1_check_0 8 rfl rfl)
theorem dX1_check_11 : decode cX1_check 11 = .ok (.invokespecial 296, 3) := dk_183 1 40 (dk_at dksX1_check_0 11 rfl rfl)
theorem dX1_check_14 : decode cX1_check 14 = .ok (.athrow, 1) := dk_191 (dk_at dksX1_check_0 14 rfl rfl)
theorem dX1_check_15 : decode cX1_check 15 = .ok (.return_, 1) := dk_177 (dk_at dksX1_check_0 15 rfl rfl)
abbrev cX1_setPatience : ByteArray := prog_1_method_6_code
def yX1_setPatience : MethodName := ⟨RX1, "setPatience", "(I)I"⟩
def dkwX1_setPatience_0 : List UInt8 := [27, 3, 17, 3, 232, 184, 0, 65, 184, 0, 69, 42, 180, 0, 13, 61, 42, 27, 181, 0, 13, 28, 172]
abbrev dktX1_setPatience_0 : List UInt8 := dkwX1_setPatience_0 ++ []
theorem dksX1_setPatience_0 : cX1_setPatience.data.toList.drop 0 = dktX1_setPatience_0 := by decide +kernel
theorem dX1_setPatience_0 : decode cX1_setPatience 0 = .ok (.iload_n 1, 1) := dk_27 (dk_at dksX1_setPatience_0 0 rfl rfl)
theorem dX1_setPatience_1 : decode cX1_setPatience 1 = .ok (.iconst 0, 1) := dk_3 (dk_at dksX1_setPatience_0 1 rfl rfl)
theorem dX1_setPatience_2 : decode cX1_setPatience 2 = .ok (.sipush 1000, 3) := dk_17 3 232 (dk_at dksX1_setPatience_0 2 rfl rfl)
theorem dX1_setPatience_5 : decode cX1_setPatience 5 = .ok (.invokestatic 65, 3) := dk_184 0 65 (dk_at dksX1_setPatience_0 5 rfl rfl)
theorem dX1_setPatience_8 : decode cX1_setPatience 8 = .ok (.invokestatic 69, 3) := dk_184 0 69 (dk_at dksX1_setPatience_0 8 rfl rfl)
theorem dX1_setPatience_11 : decode cX1_setPatience 11 = .ok (.aload_n 0, 1) := dk_42 (dk_at dksX1_setPatience_0 11 rfl rfl)
theorem dX1_setPatience_12 : decode cX1_setPatience 12 = .ok (.getfield 13, 3) := dk_180 0 13 (dk_at dksX1_setPatience_0 12 rfl rfl)
theorem dX1_setPatience_15 : decode cX1_setPatience 15 = .ok (.istore_n 2, 1) := dk_61 (dk_at dksX1_setPatience_0 15 rfl rfl)
theorem dX1_setPatience_16 : decode cX1_setPatience 16 = .ok (.aload_n 0, 1) := dk_42 (dk_at dksX1_setPatience_0 16 rfl rfl)
theorem dX1_setPatience_17 : decode cX1_setPatience 17 = .ok (.iload_n 1, 1) := dk_27 (dk_at dksX1_setPatience_0 17 rfl rfl)
theorem dX1_setPatience_18 : decode cX1_setPatience 18 = .ok (.putfield 13, 3) := dk_181 0 13 (dk_at dksX1_setPatience_0 18 rfl rfl)
theorem dX1_setPatience_21 : decode cX1_setPatience 21 = .ok (.iload_n 2, 1) := dk_28 (dk_at dksX1_setPatience_0 21 rfl rfl)
theorem dX1_setPatience_22 : decode cX1_setPatience 22 = .ok (.ireturn, 1) := dk_172 (dk_at dksX1_setPatience_0 22 rfl rfl)
abbrev cX1_event : ByteArray := prog_1_method_7_code
def yX1_event : MethodName := ⟨RX1, "event", "(IIIII)I"⟩
def dkwX1_event_1 : List UInt8 := [172]
abbrev dktX1_event_1 : List UInt8 := dkwX1_event_1 ++ []
def dkwX1_event_0 : List UInt8 := [42, 27, 28, 29, 21, 4, 21, 5, 182, 0, 72, 58, 6, 42, 25, 6, 182, 0, 76, 25, 6, 180, 0, 80]
abbrev dktX1_event_0 : List UInt8 := dkwX1_event_0 ++ dktX1_event_1
theorem dksX1_event_0 : cX1_event.data.toList.drop 0 = dktX1_event_0 := by decide +kernel
theorem dksX1_event_1 : cX1_event.data.toList.drop 24 = dktX1_event_1 := dk_seg dksX1_event_0 24 rfl rfl
theorem dX1_event_0 : decode cX1_event 0 = .ok (.aload_n 0, 1) := dk_42 (dk_at dksX1_event_0 0 rfl rfl)
theorem dX1_event_1 : decode cX1_event 1 = .ok (.iload_n 1, 1) := dk_27 (dk_at dksX1_event_0 1 rfl rfl)
theorem dX1_event_2 : decode cX1_event 2 = .ok (.iload_n 2, 1) := dk_28 (dk_at dksX1_event_0 2 rfl rfl)
theorem dX1_event_3 : decode cX1_event 3 = .ok (.iload_n 3, 1) := dk_29 (dk_at dksX1_event_0 3 rfl rfl)
theorem dX1_event_4 : decode cX1_event 4 = .ok (.iload 4, 2) := dk_21 4 (dk_at dksX1_event_0 4 rfl rfl)
theorem dX1_event_6 : decode cX1_event 6 = .ok (.iload 5, 2) := dk_21 5 (dk_at dksX1_event_0 6 rfl rfl)
theorem dX1_event_8 : decode cX1_event 8 = .ok (.invokevirtual 72, 3) := dk_182 0 72 (dk_at dksX1_event_0 8 rfl rfl)
theorem dX1_event_11 : decode cX1_event 11 = .ok (.astore 6, 2) := dk_58 6 (dk_at dksX1_event_0 11 rfl rfl)
theorem dX1_event_13 : decode cX1_event 13 = .ok (.aload_n 0, 1) := dk_42 (dk_at dksX1_event_0 13 rfl rfl)
theorem dX1_event_14 : decode cX1_event 14 = .ok (.aload 6, 2) := dk_25 6 (dk_at dksX1_event_0 14 rfl rfl)
theorem dX1_event_16 : decode cX1_event 16 = .ok (.invokevirtual 76, 3) := dk_182 0 76 (dk_at dksX1_event_0 16 rfl rfl)
theorem dX1_event_19 : decode cX1_event 19 = .ok (.aload 6, 2) := dk_25 6 (dk_at dksX1_event_0 19 rfl rfl)
theorem dX1_event_21 : decode cX1_event 21 = .ok (.getfield 80, 3) := dk_180 0 80 (dk_at dksX1_event_0 21 rfl rfl)
theorem dX1_event_24 : decode cX1_event 24 = .ok (.ireturn, 1) := dk_172 (dk_at dksX1_event_1 0 rfl rfl)
abbrev cX1_comer : ByteArray := prog_1_method_55_code
def yX1_comer : MethodName := ⟨RX1, "comer", "(IIIII)LLogGrammar$Event;"⟩
def dkwX1_comer_6 : List UInt8 := [180, 0, 172, 162, 0, 7, 4, 167, 0, 4, 3, 183, 1, 46, 176]
abbrev dktX1_comer_6 : List UInt8 := dkwX1_comer_6 ++ []
def dkwX1_comer_5 : List UInt8 := [187, 0, 81, 89, 42, 180, 0, 20, 185, 0, 157, 1, 0, 21, 6, 27, 29, 21, 4, 21, 5, 21, 6, 42]
abbrev dktX1_comer_5 : List UInt8 := dkwX1_comer_5 ++ dktX1_comer_6
def dkwX1_comer_4 : List UInt8 := [21, 6, 42, 180, 0, 172, 42, 180, 0, 13, 100, 161, 0, 7, 4, 167, 0, 4, 3, 184, 0, 92]
abbrev dktX1_comer_4 : List UInt8 := dkwX1_comer_4 ++ dktX1_comer_5
def dkwX1_comer_3 : List UInt8 := [96, 54, 6, 42, 180, 0, 30, 153, 0, 35, 42, 180, 0, 20, 185, 0, 157, 1, 0, 16, 80, 162, 0, 21]
abbrev dktX1_comer_3 : List UInt8 := dkwX1_comer_3 ++ dktX1_comer_4
def dkwX1_comer_2 : List UInt8 := [17, 3, 232, 184, 0, 65, 153, 0, 7, 4, 167, 0, 4, 3, 184, 0, 69, 28, 42, 180, 0, 9, 27, 46]
abbrev dktX1_comer_2 : List UInt8 := dkwX1_comer_2 ++ dktX1_comer_3
def dkwX1_comer_1 : List UInt8 := [184, 0, 65, 153, 0, 32, 21, 4, 2, 16, 9, 184, 0, 65, 153, 0, 21, 21, 5, 17, 252, 24]
abbrev dktX1_comer_1 : List UInt8 := dkwX1_comer_1 ++ dktX1_comer_2
def dkwX1_comer_0 : List UInt8 := [27, 184, 0, 57, 184, 0, 61, 28, 17, 3, 232, 17, 39, 16, 184, 0, 65, 153, 0, 42, 29, 3, 16, 7]
abbrev dktX1_comer_0 : List UInt8 := dkwX1_comer_0 ++ dktX1_comer_1
theorem dksX1_comer_0 : cX1_comer.data.toList.drop 0 = dktX1_comer_0 := by decide +kernel
theorem dksX1_comer_1 : cX1_comer.data.toList.drop 24 = dktX1_comer_1 := dk_seg dksX1_comer_0 24 rfl rfl
theorem dksX1_comer_2 : cX1_comer.data.toList.drop 46 = dktX1_comer_2 := dk_seg dksX1_comer_1 22 rfl rfl
theorem dksX1_comer_3 : cX1_comer.data.toList.drop 70 = dktX1_comer_3 := dk_seg dksX1_comer_2 24 rfl rfl
theorem dksX1_comer_4 : cX1_comer.data.toList.drop 94 = dktX1_comer_4 := dk_seg dksX1_comer_3 24 rfl rfl
theorem dksX1_comer_5 : cX1_comer.data.toList.drop 116 = dktX1_comer_5 := dk_seg dksX1_comer_4 22 rfl rfl
theorem dksX1_comer_6 : cX1_comer.data.toList.drop 140 = dktX1_comer_6 := dk_seg dksX1_comer_5 24 rfl rfl
theorem dX1_comer_0 : decode cX1_comer 0 = .ok (.iload_n 1, 1) := dk_27 (dk_at dksX1_comer_0 0 rfl rfl)
theorem dX1_comer_1 : decode cX1_comer 1 = .ok (.invokestatic 57, 3) := dk_184 0 57 (dk_at dksX1_comer_0 1 rfl rfl)
theorem dX1_comer_4 : decode cX1_comer 4 = .ok (.invokestatic 61, 3) := dk_184 0 61 (dk_at dksX1_comer_0 4 rfl rfl)
theorem dX1_comer_7 : decode cX1_comer 7 = .ok (.iload_n 2, 1) := dk_28 (dk_at dksX1_comer_0 7 rfl rfl)
theorem dX1_comer_8 : decode cX1_comer 8 = .ok (.sipush 1000, 3) := dk_17 3 232 (dk_at dksX1_comer_0 8 rfl rfl)
theorem dX1_comer_11 : decode cX1_comer 11 = .ok (.sipush 10000, 3) := dk_17 39 16 (dk_at dksX1_comer_0 11 rfl rfl)
theorem dX1_comer_14 : decode cX1_comer 14 = .ok (.invokestatic 65, 3) := dk_184 0 65 (dk_at dksX1_comer_0 14 rfl rfl)
theorem dX1_comer_17 : decode cX1_comer 17 = .ok (.ifCond .eq 42, 3) := dk_153 0 42 (dk_at dksX1_comer_0 17 rfl rfl)
theorem dX1_comer_20 : decode cX1_comer 20 = .ok (.iload_n 3, 1) := dk_29 (dk_at dksX1_comer_0 20 rfl rfl)
theorem dX1_comer_21 : decode cX1_comer 21 = .ok (.iconst 0, 1) := dk_3 (dk_at dksX1_comer_0 21 rfl rfl)
theorem dX1_comer_22 : decode cX1_comer 22 = .ok (.bipush 7, 2) := dk_16 7 (dk_at dksX1_comer_0 22 rfl rfl)
theorem dX1_comer_24 : decode cX1_comer 24 = .ok (.invokestatic 65, 3) := dk_184 0 65 (dk_at dksX1_comer_1 0 rfl rfl)
theorem dX1_comer_27 : decode cX1_comer 27 = .ok (.ifCond .eq 32, 3) := dk_153 0 32 (dk_at dksX1_comer_1 3 rfl rfl)
theorem dX1_comer_30 : decode cX1_comer 30 = .ok (.iload 4, 2) := dk_21 4 (dk_at dksX1_comer_1 6 rfl rfl)
theorem dX1_comer_32 : decode cX1_comer 32 = .ok (.iconst (-1), 1) := dk_2 (dk_at dksX1_comer_1 8 rfl rfl)
theorem dX1_comer_33 : decode cX1_comer 33 = .ok (.bipush 9, 2) := dk_16 9 (dk_at dksX1_comer_1 9 rfl rfl)
theorem dX1_comer_35 : decode cX1_comer 35 = .ok (.invokestatic 65, 3) := dk_184 0 65 (dk_at dksX1_comer_1 11 rfl rfl)
theorem dX1_comer_38 : decode cX1_comer 38 = .ok (.ifCond .eq 21, 3) := dk_153 0 21 (dk_at dksX1_comer_1 14 rfl rfl)
theorem dX1_comer_41 : decode cX1_comer 41 = .ok (.iload 5, 2) := dk_21 5 (dk_at dksX1_comer_1 17 rfl rfl)
theorem dX1_comer_43 : decode cX1_comer 43 = .ok (.sipush (-1000), 3) := dk_17 252 24 (dk_at dksX1_comer_1 19 rfl rfl)
theorem dX1_comer_46 : decode cX1_comer 46 = .ok (.sipush 1000, 3) := dk_17 3 232 (dk_at dksX1_comer_2 0 rfl rfl)
theorem dX1_comer_49 : decode cX1_comer 49 = .ok (.invokestatic 65, 3) := dk_184 0 65 (dk_at dksX1_comer_2 3 rfl rfl)
theorem dX1_comer_52 : decode cX1_comer 52 = .ok (.ifCond .eq 7, 3) := dk_153 0 7 (dk_at dksX1_comer_2 6 rfl rfl)
theorem dX1_comer_55 : decode cX1_comer 55 = .ok (.iconst 1, 1) := dk_4 (dk_at dksX1_comer_2 9 rfl rfl)
theorem dX1_comer_56 : decode cX1_comer 56 = .ok (.goto 4, 3) := dk_167 0 4 (dk_at dksX1_comer_2 10 rfl rfl)
theorem dX1_comer_59 : decode cX1_comer 59 = .ok (.iconst 0, 1) := dk_3 (dk_at dksX1_comer_2 13 rfl rfl)
theorem dX1_comer_60 : decode cX1_comer 60 = .ok (.invokestatic 69, 3) := dk_184 0 69 (dk_at dksX1_comer_2 14 rfl rfl)
theorem dX1_comer_63 : decode cX1_comer 63 = .ok (.iload_n 2, 1) := dk_28 (dk_at dksX1_comer_2 17 rfl rfl)
theorem dX1_comer_64 : decode cX1_comer 64 = .ok (.aload_n 0, 1) := dk_42 (dk_at dksX1_comer_2 18 rfl rfl)
theorem dX1_comer_65 : decode cX1_comer 65 = .ok (.getfield 9, 3) := dk_180 0 9 (dk_at dksX1_comer_2 19 rfl rfl)
theorem dX1_comer_68 : decode cX1_comer 68 = .ok (.iload_n 1, 1) := dk_27 (dk_at dksX1_comer_2 22 rfl rfl)
theorem dX1_comer_69 : decode cX1_comer 69 = .ok (.iaload, 1) := dk_46 (dk_at dksX1_comer_2 23 rfl rfl)
theorem dX1_comer_70 : decode cX1_comer 70 = .ok (.iadd, 1) := dk_96 (dk_at dksX1_comer_3 0 rfl rfl)
theorem dX1_comer_71 : decode cX1_comer 71 = .ok (.istore 6, 2) := dk_54 6 (dk_at dksX1_comer_3 1 rfl rfl)
theorem dX1_comer_73 : decode cX1_comer 73 = .ok (.aload_n 0, 1) := dk_42 (dk_at dksX1_comer_3 3 rfl rfl)
theorem dX1_comer_74 : decode cX1_comer 74 = .ok (.getfield 30, 3) := dk_180 0 30 (dk_at dksX1_comer_3 4 rfl rfl)
theorem dX1_comer_77 : decode cX1_comer 77 = .ok (.ifCond .eq 35, 3) := dk_153 0 35 (dk_at dksX1_comer_3 7 rfl rfl)
theorem dX1_comer_80 : decode cX1_comer 80 = .ok (.aload_n 0, 1) := dk_42 (dk_at dksX1_comer_3 10 rfl rfl)
theorem dX1_comer_81 : decode cX1_comer 81 = .ok (.getfield 20, 3) := dk_180 0 20 (dk_at dksX1_comer_3 11 rfl rfl)
theorem dX1_comer_84 : decode cX1_comer 84 = .ok (.invokeinterface 157 1, 5) := by decide +kernel
theorem dX1_comer_89 : decode cX1_comer 89 = .ok (.bipush 80, 2) := dk_16 80 (dk_at dksX1_comer_3 19 rfl rfl)
theorem dX1_comer_91 : decode cX1_comer 91 = .ok (.if_icmp .ge 21, 3) := dk_162 0 21 (dk_at dksX1_comer_3 21 rfl rfl)
theorem dX1_comer_94 : decode cX1_comer 94 = .ok (.iload 6, 2) := dk_21 6 (dk_at dksX1_comer_4 0 rfl rfl)
theorem dX1_comer_96 : decode cX1_comer 96 = .ok (.aload_n 0, 1) := dk_42 (dk_at dksX1_comer_4 2 rfl rfl)
theorem dX1_comer_97 : decode cX1_comer 97 = .ok (.getfield 172, 3) := dk_180 0 172 (dk_at dksX1_comer_4 3 rfl rfl)
theorem dX1_comer_100 : decode cX1_comer 100 = .ok (.aload_n 0, 1) := dk_42 (dk_at dksX1_comer_4 6 rfl rfl)
theorem dX1_comer_101 : decode cX1_comer 101 = .ok (.getfield 13, 3) := dk_180 0 13 (dk_at dksX1_comer_4 7 rfl rfl)
theorem dX1_comer_104 : decode cX1_comer 104 = .ok (.isub, 1) := dk_100 (dk_at dksX1_comer_4 10 rfl rfl)
theorem dX1_comer_105 : decode cX1_comer 105 = .ok (.if_icmp .lt 7, 3) := dk_161 0 7 (dk_at dksX1_comer_4 11 rfl rfl)
theorem dX1_comer_108 : decode cX1_comer 108 = .ok (.iconst 1, 1) := dk_4 (dk_at dksX1_comer_4 14 rfl rfl)
theorem dX1_comer_109 : decode cX1_comer 109 = .ok (.goto 4, 3) := dk_167 0 4 (dk_at dksX1_comer_4 15 rfl rfl)
theorem dX1_comer_112 : decode cX1_comer 112 = .ok (.iconst 0, 1) := dk_3 (dk_at dksX1_comer_4 18 rfl rfl)
theorem dX1_comer_113 : decode cX1_comer 113 = .ok (.invokestatic 92, 3) := dk_184 0 92 (dk_at dksX1_comer_4 19 rfl rfl)
theorem dX1_comer_116 : decode cX1_comer 116 = .ok (.new 81, 3) := dk_187 0 81 (dk_at dksX1_comer_5 0 rfl rfl)
theorem dX1_comer_119 : decode cX1_comer 119 = .ok (.dup, 1) := dk_89 (dk_at dksX1_comer_5 3 rfl rfl)
theorem dX1_comer_120 : decode cX1_comer 120 = .ok (.aload_n 0, 1) := dk_42 (dk_at dksX1_comer_5 4 rfl rfl)
theorem dX1_comer_121 : decode cX1_comer 121 = .ok (.getfield 20, 3) := dk_180 0 20 (dk_at dksX1_comer_5 5 rfl rfl)
theorem dX1_comer_124 : decode cX1_comer 124 = .ok (.invokeinterface 157 1, 5) := by decide +kernel
theorem dX1_comer_129 : decode cX1_comer 129 = .ok (.iload 6, 2) := dk_21 6 (dk_at dksX1_comer_5 13 rfl rfl)
theorem dX1_comer_131 : decode cX1_comer 131 = .ok (.iload_n 1, 1) := dk_27 (dk_at dksX1_comer_5 15 rfl rfl)
theorem dX1_comer_132 : decode cX1_comer 132 = .ok (.iload_n 3, 1) := dk_29 (dk_at dksX1_comer_5 16 rfl rfl)
theorem dX1_comer_133 : decode cX1_comer 133 = .ok (.iload 4, 2) := dk_21 4 (dk_at dksX1_comer_5 17 rfl rfl)
theorem dX1_comer_135 : decode cX1_comer 135 = .ok (.iload 5, 2) := dk_21 5 (dk_at dksX1_comer_5 19 rfl rfl)
theorem dX1_comer_137 : decode cX1_comer 137 = .ok (.iload 6, 2) := dk_21 6 (dk_at dksX1_comer_5 21 rfl rfl)
theorem dX1_comer_139 : decode cX1_comer 139 = .ok (.aload_n 0, 1) := dk_42 (dk_at dksX1_comer_5 23 rfl rfl)
theorem dX1_comer_140 : decode cX1_comer 140 = .ok (.getfield 172, 3) := dk_180 0 172 (dk_at dksX1_comer_6 0 rfl rfl)
theorem dX1_comer_143 : decode cX1_comer 143 = .ok (.if_icmp .ge 7, 3) := dk_162 0 7 (dk_at dksX1_comer_6 3 rfl rfl)
theorem dX1_comer_146 : decode cX1_comer 146 = .ok (.iconst 1, 1) := dk_4 (dk_at dksX1_comer_6 6 rfl rfl)
theorem dX1_comer_147 : decode cX1_comer 147 = .ok (.goto 4, 3) := dk_167 0 4 (dk_at dksX1_comer_6 7 rfl rfl)
theorem dX1_comer_150 : decode cX1_comer 150 = .ok (.iconst 0, 1) := dk_3 (dk_at dksX1_comer_6 10 rfl rfl)
theorem dX1_comer_151 : decode cX1_comer 151 = .ok (.invokespecial 302, 3) := dk_183 1 46 (dk_at dksX1_comer_6 11 rfl rfl)
theorem dX1_comer_154 : decode cX1_comer 154 = .ok (.areturn, 1) := dk_176 (dk_at dksX1_comer_6 14 rfl rfl)
abbrev cX1_allow : ByteArray := prog_1_method_49_code
def yX1_allow : MethodName := ⟨RX1, "allow", "(Z)V"⟩
def dkwX1_allow_0 : List UInt8 := [26, 154, 0, 14, 187, 1, 41, 89, 19, 1, 43, 183, 1, 45, 191, 177]
abbrev dktX1_allow_0 : List UInt8 := dkwX1_allow_0 ++ []
theorem dksX1_allow_0 : cX1_allow.data.toList.drop 0 = dktX1_allow_0 := by decide +kernel
theorem dX1_allow_0 : decode cX1_allow 0 = .ok (.iload_n 0, 1) := dk_26 (dk_at dksX1_allow_0 0 rfl rfl)
theorem dX1_allow_1 : decode cX1_allow 1 = .ok (.ifCond .ne 14, 3) := dk_154 0 14 (dk_at dksX1_allow_0 1 rfl rfl)
theorem dX1_allow_4 : decode cX1_allow 4 = .ok (.new 297, 3) := dk_187 1 41 (dk_at dksX1_allow_0 4 rfl rfl)
theorem dX1_allow_7 : decode cX1_allow 7 = .ok (.dup, 1) := dk_89 (dk_at dksX1_allow_0 7 rfl rfl)
theorem dX1_allow_8 : decode cX1_allow 8 = .ok (.ldc_w 299, 3) := dk_19 1 43 (dk_at dksX1_allow_0 8 rfl rfl)
theorem dX1_allow_11 : decode cX1_allow 11 = .ok (.invokespecial 301, 3) := dk_183 1 45 (dk_at dksX1_allow_0 11 rfl rfl)
theorem dX1_allow_14 : decode cX1_allow 14 = .ok (.athrow, 1) := dk_191 (dk_at dksX1_allow_0 14 rfl rfl)
theorem dX1_allow_15 : decode cX1_allow 15 = .ok (.return_, 1) := dk_177 (dk_at dksX1_allow_0 15 rfl rfl)
abbrev cX1_come : ByteArray := prog_1_method_57_code
def yX1_come : MethodName := ⟨RX1, "come", "(LLogGrammar$Event;)V"⟩
def dkwX1_come_3 : List UInt8 := [182, 0, 99, 177]
abbrev dktX1_come_3 : List UInt8 := dkwX1_come_3 ++ []
def dkwX1_come_2 : List UInt8 := [192, 0, 46, 43, 180, 0, 182, 187, 0, 192, 89, 4, 43, 180, 0, 217, 183, 1, 59, 182, 1, 60, 42]
abbrev dktX1_come_2 : List UInt8 := dkwX1_come_2 ++ dktX1_come_3
def dkwX1_come_1 : List UInt8 := [43, 180, 0, 182, 184, 0, 220, 181, 0, 172, 42, 180, 0, 27, 43, 180, 0, 214, 185, 0, 175, 2, 0]
abbrev dktX1_come_1 : List UInt8 := dkwX1_come_1 ++ dktX1_come_2
def dkwX1_come_0 : List UInt8 := [42, 180, 0, 20, 43, 185, 0, 51, 2, 0, 87, 42, 180, 0, 24, 43, 184, 1, 55, 42, 42, 180, 0, 172]
abbrev dktX1_come_0 : List UInt8 := dkwX1_come_0 ++ dktX1_come_1
theorem dksX1_come_0 : cX1_come.data.toList.drop 0 = dktX1_come_0 := by decide +kernel
theorem dksX1_come_1 : cX1_come.data.toList.drop 24 = dktX1_come_1 := dk_seg dksX1_come_0 24 rfl rfl
theorem dksX1_come_2 : cX1_come.data.toList.drop 47 = dktX1_come_2 := dk_seg dksX1_come_1 23 rfl rfl
theorem dksX1_come_3 : cX1_come.data.toList.drop 70 = dktX1_come_3 := dk_seg dksX1_come_2 23 rfl rfl
theorem dX1_come_0 : decode cX1_come 0 = .ok (.aload_n 0, 1) := dk_42 (dk_at dksX1_come_0 0 rfl rfl)
theorem dX1_come_1 : decode cX1_come 1 = .ok (.getfield 20, 3) := dk_180 0 20 (dk_at dksX1_come_0 1 rfl rfl)
theorem dX1_come_4 : decode cX1_come 4 = .ok (.aload_n 1, 1) := dk_43 (dk_at dksX1_come_0 4 rfl rfl)
theorem dX1_come_5 : decode cX1_come 5 = .ok (.invokeinterface 51 2, 5) := by decide +kernel
theorem dX1_come_10 : decode cX1_come 10 = .ok (.pop, 1) := dk_87 (dk_at dksX1_come_0 10 rfl rfl)
theorem dX1_come_11 : decode cX1_come 11 = .ok (.aload_n 0, 1) := dk_42 (dk_at dksX1_come_0 11 rfl rfl)
theorem dX1_come_12 : decode cX1_come 12 = .ok (.getfield 24, 3) := dk_180 0 24 (dk_at dksX1_come_0 12 rfl rfl)
theorem dX1_come_15 : decode cX1_come 15 = .ok (.aload_n 1, 1) := dk_43 (dk_at dksX1_come_0 15 rfl rfl)
theorem dX1_come_16 : decode cX1_come 16 = .ok (.invokestatic 311, 3) := dk_184 1 55 (dk_at dksX1_come_0 16 rfl rfl)
theorem dX1_come_19 : decode cX1_come 19 = .ok (.aload_n 0, 1) := dk_42 (dk_at dksX1_come_0 19 rfl rfl)
theorem dX1_come_20 : decode cX1_come 20 = .ok (.aload_n 0, 1) := dk_42 (dk_at dksX1_come_0 20 rfl rfl)
theorem dX1_come_21 : decode cX1_come 21 = .ok (.getfield 172, 3) := dk_180 0 172 (dk_at dksX1_come_0 21 rfl rfl)
theorem dX1_come_24 : decode cX1_come 24 = .ok (.aload_n 1, 1) := dk_43 (dk_at dksX1_come_1 0 rfl rfl)
theorem dX1_come_25 : decode cX1_come 25 = .ok (.getfield 182, 3) := dk_180 0 182 (dk_at dksX1_come_1 1 rfl rfl)
theorem dX1_come_28 : decode cX1_come 28 = .ok (.invokestatic 220, 3) := dk_184 0 220 (dk_at dksX1_come_1 4 rfl rfl)
theorem dX1_come_31 : decode cX1_come 31 = .ok (.putfield 172, 3) := dk_181 0 172 (dk_at dksX1_come_1 7 rfl rfl)
theorem dX1_come_34 : decode cX1_come 34 = .ok (.aload_n 0, 1) := dk_42 (dk_at dksX1_come_1 10 rfl rfl)
theorem dX1_come_35 : decode cX1_come 35 = .ok (.getfield 27, 3) := dk_180 0 27 (dk_at dksX1_come_1 11 rfl rfl)
theorem dX1_come_38 : decode cX1_come 38 = .ok (.aload_n 1, 1) := dk_43 (dk_at dksX1_come_1 14 rfl rfl)
theorem dX1_come_39 : decode cX1_come 39 = .ok (.getfield 214, 3) := dk_180 0 214 (dk_at dksX1_come_1 15 rfl rfl)
theorem dX1_come_42 : decode cX1_come 42 = .ok (.invokeinterface 175 2, 5) := by decide +kernel
theorem dX1_come_47 : decode cX1_come 47 = .ok (.checkcast 46, 3) := dk_192 0 46 (dk_at dksX1_come_2 0 rfl rfl)
theorem dX1_come_50 : decode cX1_come 50 = .ok (.aload_n 1, 1) := dk_43 (dk_at dksX1_come_2 3 rfl rfl)
theorem dX1_come_51 : decode cX1_come 51 = .ok (.getfield 182, 3) := dk_180 0 182 (dk_at dksX1_come_2 4 rfl rfl)
theorem dX1_come_54 : decode cX1_come 54 = .ok (.new 192, 3) := dk_187 0 192 (dk_at dksX1_come_2 7 rfl rfl)
theorem dX1_come_57 : decode cX1_come 57 = .ok (.dup, 1) := dk_89 (dk_at dksX1_come_2 10 rfl rfl)
theorem dX1_come_58 : decode cX1_come 58 = .ok (.iconst 1, 1) := dk_4 (dk_at dksX1_come_2 11 rfl rfl)
theorem dX1_come_59 : decode cX1_come 59 = .ok (.aload_n 1, 1) := dk_43 (dk_at dksX1_come_2 12 rfl rfl)
theorem dX1_come_60 : decode cX1_come 60 = .ok (.getfield 217, 3) := dk_180 0 217 (dk_at dksX1_come_2 13 rfl rfl)
theorem dX1_come_63 : decode cX1_come 63 = .ok (.invokespecial 315, 3) := dk_183 1 59 (dk_at dksX1_come_2 16 rfl rfl)
theorem dX1_come_66 : decode cX1_come 66 = .ok (.invokevirtual 316, 3) := dk_182 1 60 (dk_at dksX1_come_2 19 rfl rfl)
theorem dX1_come_69 : decode cX1_come 69 = .ok (.aload_n 0, 1) := dk_42 (dk_at dksX1_come_2 22 rfl rfl)
theorem dX1_come_70 : decode cX1_come 70 = .ok (.invokevirtual 99, 3) := dk_182 0 99 (dk_at dksX1_come_3 0 rfl rfl)
theorem dX1_come_73 : decode cX1_come 73 = .ok (.return_, 1) := dk_177 (dk_at dksX1_come_3 3 rfl rfl)
abbrev cX1_insert : ByteArray := prog_1_method_56_code
def yX1_insert : MethodName := ⟨RX1, "insert", "(Ljava/util/List;LLogGrammar$Event;)V"⟩
def dkwX1_insert_1 : List UInt8 := [182, 1, 49, 153, 0, 9, 132, 2, 255, 167, 255, 230, 42, 28, 43, 185, 1, 52, 3, 0, 177]
abbrev dktX1_insert_1 : List UInt8 := dkwX1_insert_1 ++ []
def dkwX1_insert_0 : List UInt8 := [42, 185, 0, 157, 1, 0, 61, 28, 158, 0, 28, 43, 42, 28, 4, 100, 185, 0, 175, 2, 0, 192, 0, 81]
abbrev dktX1_insert_0 : List UInt8 := dkwX1_insert_0 ++ dktX1_insert_1
theorem dksX1_insert_0 : cX1_insert.data.toList.drop 0 = dktX1_insert_0 := by decide +kernel
theorem dksX1_insert_1 : cX1_insert.data.toList.drop 24 = dktX1_insert_1 := dk_seg dksX1_insert_0 24 rfl rfl
theorem dX1_insert_0 : decode cX1_insert 0 = .ok (.aload_n 0, 1) := dk_42 (dk_at dksX1_insert_0 0 rfl rfl)
theorem dX1_insert_1 : decode cX1_insert 1 = .ok (.invokeinterface 157 1, 5) := by decide +kernel
theorem dX1_insert_6 : decode cX1_insert 6 = .ok (.istore_n 2, 1) := dk_61 (dk_at dksX1_insert_0 6 rfl rfl)
theorem dX1_insert_7 : decode cX1_insert 7 = .ok (.iload_n 2, 1) := dk_28 (dk_at dksX1_insert_0 7 rfl rfl)
theorem dX1_insert_8 : decode cX1_insert 8 = .ok (.ifCond .le 28, 3) := dk_158 0 28 (dk_at dksX1_insert_0 8 rfl rfl)
theorem dX1_insert_11 : decode cX1_insert 11 = .ok (.aload_n 1, 1) := dk_43 (dk_at dksX1_insert_0 11 rfl rfl)
theorem dX1_insert_12 : decode cX1_insert 12 = .ok (.aload_n 0, 1) := dk_42 (dk_at dksX1_insert_0 12 rfl rfl)
theorem dX1_insert_13 : decode cX1_insert 13 = .ok (.iload_n 2, 1) := dk_28 (dk_at dksX1_insert_0 13 rfl rfl)
theorem dX1_insert_14 : decode cX1_insert 14 = .ok (.iconst 1, 1) := dk_4 (dk_at dksX1_insert_0 14 rfl rfl)
theorem dX1_insert_15 : decode cX1_insert 15 = .ok (.isub, 1) := dk_100 (dk_at dksX1_insert_0 15 rfl rfl)
theorem dX1_insert_16 : decode cX1_insert 16 = .ok (.invokeinterface 175 2, 5) := by decide +kernel
theorem dX1_insert_21 : decode cX1_insert 21 = .ok (.checkcast 81, 3) := dk_192 0 81 (dk_at dksX1_insert_0 21 rfl rfl)
theorem dX1_insert_24 : decode cX1_insert 24 = .ok (.invokevirtual 305, 3) := dk_182 1 49 (dk_at dksX1_insert_1 0 rfl rfl)
theorem dX1_insert_27 : decode cX1_insert 27 = .ok (.ifCond .eq 9, 3) := dk_153 0 9 (dk_at dksX1_insert_1 3 rfl rfl)
theorem dX1_insert_30 : decode cX1_insert 30 = .ok (.iinc 2 (-1), 3) := dk_132 2 255 (dk_at dksX1_insert_1 6 rfl rfl)
theorem dX1_insert_33 : decode cX1_insert 33 = .ok (.goto (-26), 3) := dk_167 255 230 (dk_at dksX1_insert_1 9 rfl rfl)
theorem dX1_insert_36 : decode cX1_insert 36 = .ok (.aload_n 0, 1) := dk_42 (dk_at dksX1_insert_1 12 rfl rfl)
theorem dX1_insert_37 : decode cX1_insert 37 = .ok (.iload_n 2, 1) := dk_28 (dk_at dksX1_insert_1 13 rfl rfl)
theorem dX1_insert_38 : decode cX1_insert 38 = .ok (.aload_n 1, 1) := dk_43 (dk_at dksX1_insert_1 14 rfl rfl)
theorem dX1_insert_39 : decode cX1_insert 39 = .ok (.invokeinterface 308 3, 5) := by decide +kernel
theorem dX1_insert_44 : decode cX1_insert 44 = .ok (.return_, 1) := dk_177 (dk_at dksX1_insert_1 20 rfl rfl)
abbrev cX1_find : ByteArray := prog_1_method_61_code
def yX1_find : MethodName := ⟨RX1, "find", "()V"⟩
def dkwX1_find_1 : List UInt8 := [185, 0, 210, 1, 0, 192, 0, 163, 77, 44, 182, 1, 80, 167, 255, 233, 177]
abbrev dktX1_find_1 : List UInt8 := dkwX1_find_1 ++ []
def dkwX1_find_0 : List UInt8 := [42, 180, 0, 37, 185, 0, 200, 1, 0, 76, 43, 185, 0, 204, 1, 0, 153, 0, 20, 43]
abbrev dktX1_find_0 : List UInt8 := dkwX1_find_0 ++ dktX1_find_1
theorem dksX1_find_0 : cX1_find.data.toList.drop 0 = dktX1_find_0 := by decide +kernel
theorem dksX1_find_1 : cX1_find.data.toList.drop 20 = dktX1_find_1 := dk_seg dksX1_find_0 20 rfl rfl
theorem dX1_find_0 : decode cX1_find 0 = .ok (.aload_n 0, 1) := dk_42 (dk_at dksX1_find_0 0 rfl rfl)
theorem dX1_find_1 : decode cX1_find 1 = .ok (.getfield 37, 3) := dk_180 0 37 (dk_at dksX1_find_0 1 rfl rfl)
theorem dX1_find_4 : decode cX1_find 4 = .ok (.invokeinterface 200 1, 5) := by decide +kernel
theorem dX1_find_9 : decode cX1_find 9 = .ok (.astore_n 1, 1) := dk_76 (dk_at dksX1_find_0 9 rfl rfl)
theorem dX1_find_10 : decode cX1_find 10 = .ok (.aload_n 1, 1) := dk_43 (dk_at dksX1_find_0 10 rfl rfl)
theorem dX1_find_11 : decode cX1_find 11 = .ok (.invokeinterface 204 1, 5) := by decide +kernel
theorem dX1_find_16 : decode cX1_find 16 = .ok (.ifCond .eq 20, 3) := dk_153 0 20 (dk_at dksX1_find_0 16 rfl rfl)
theorem dX1_find_19 : decode cX1_find 19 = .ok (.aload_n 1, 1) := dk_43 (dk_at dksX1_find_0 19 rfl rfl)
theorem dX1_find_20 : decode cX1_find 20 = .ok (.invokeinterface 210 1, 5) := by decide +kernel
theorem dX1_find_25 : decode cX1_find 25 = .ok (.checkcast 163, 3) := dk_192 0 163 (dk_at dksX1_find_1 5 rfl rfl)
theorem dX1_find_28 : decode cX1_find 28 = .ok (.astore_n 2, 1) := dk_77 (dk_at dksX1_find_1 8 rfl rfl)
theorem dX1_find_29 : decode cX1_find 29 = .ok (.aload_n 2, 1) := dk_44 (dk_at dksX1_find_1 9 rfl rfl)
theorem dX1_find_30 : decode cX1_find 30 = .ok (.invokevirtual 336, 3) := dk_182 1 80 (dk_at dksX1_find_1 10 rfl rfl)
theorem dX1_find_33 : decode cX1_find 33 = .ok (.goto (-23), 3) := dk_167 255 233 (dk_at dksX1_find_1 13 rfl rfl)
theorem dX1_find_36 : decode cX1_find 36 = .ok (.return_, 1) := dk_177 (dk_at dksX1_find_1 16 rfl rfl)
abbrev cX1_offer : ByteArray := prog_1_method_8_code
def yX1_offer : MethodName := ⟨RX1, "offer", "(IIIII)I"⟩
def dkwX1_offer_1 : List UInt8 := [180, 0, 89, 4, 96, 181, 0, 89, 2, 172, 42, 25, 6, 182, 0, 76, 25, 6, 180, 0, 80, 172]
abbrev dktX1_offer_1 : List UInt8 := dkwX1_offer_1 ++ []
def dkwX1_offer_0 : List UInt8 := [42, 27, 28, 29, 21, 4, 21, 5, 182, 0, 72, 58, 6, 42, 25, 6, 182, 0, 85, 153, 0, 15, 42, 89]
abbrev dktX1_offer_0 : List UInt8 := dkwX1_offer_0 ++ dktX1_offer_1
theorem dksX1_offer_0 : cX1_offer.data.toList.drop 0 = dktX1_offer_0 := by decide +kernel
theorem dksX1_offer_1 : cX1_offer.data.toList.drop 24 = dktX1_offer_1 := dk_seg dksX1_offer_0 24 rfl rfl
theorem dX1_offer_0 : decode cX1_offer 0 = .ok (.aload_n 0, 1) := dk_42 (dk_at dksX1_offer_0 0 rfl rfl)
theorem dX1_offer_1 : decode cX1_offer 1 = .ok (.iload_n 1, 1) := dk_27 (dk_at dksX1_offer_0 1 rfl rfl)
theorem dX1_offer_2 : decode cX1_offer 2 = .ok (.iload_n 2, 1) := dk_28 (dk_at dksX1_offer_0 2 rfl rfl)
theorem dX1_offer_3 : decode cX1_offer 3 = .ok (.iload_n 3, 1) := dk_29 (dk_at dksX1_offer_0 3 rfl rfl)
theorem dX1_offer_4 : decode cX1_offer 4 = .ok (.iload 4, 2) := dk_21 4 (dk_at dksX1_offer_0 4 rfl rfl)
theorem dX1_offer_6 : decode cX1_offer 6 = .ok (.iload 5, 2) := dk_21 5 (dk_at dksX1_offer_0 6 rfl rfl)
theorem dX1_offer_8 : decode cX1_offer 8 = .ok (.invokevirtual 72, 3) := dk_182 0 72 (dk_at dksX1_offer_0 8 rfl rfl)
theorem dX1_offer_11 : decode cX1_offer 11 = .ok (.astore 6, 2) := dk_58 6 (dk_at dksX1_offer_0 11 rfl rfl)
theorem dX1_offer_13 : decode cX1_offer 13 = .ok (.aload_n 0, 1) := dk_42 (dk_at dksX1_offer_0 13 rfl rfl)
theorem dX1_offer_14 : decode cX1_offer 14 = .ok (.aload 6, 2) := dk_25 6 (dk_at dksX1_offer_0 14 rfl rfl)
theorem dX1_offer_16 : decode cX1_offer 16 = .ok (.invokevirtual 85, 3) := dk_182 0 85 (dk_at dksX1_offer_0 16 rfl rfl)
theorem dX1_offer_19 : decode cX1_offer 19 = .ok (.ifCond .eq 15, 3) := dk_153 0 15 (dk_at dksX1_offer_0 19 rfl rfl)
theorem dX1_offer_22 : decode cX1_offer 22 = .ok (.aload_n 0, 1) := dk_42 (dk_at dksX1_offer_0 22 rfl rfl)
theorem dX1_offer_23 : decode cX1_offer 23 = .ok (.dup, 1) := dk_89 (dk_at dksX1_offer_0 23 rfl rfl)
theorem dX1_offer_24 : decode cX1_offer 24 = .ok (.getfield 89, 3) := dk_180 0 89 (dk_at dksX1_offer_1 0 rfl rfl)
theorem dX1_offer_27 : decode cX1_offer 27 = .ok (.iconst 1, 1) := dk_4 (dk_at dksX1_offer_1 3 rfl rfl)
theorem dX1_offer_28 : decode cX1_offer 28 = .ok (.iadd, 1) := dk_96 (dk_at dksX1_offer_1 4 rfl rfl)
theorem dX1_offer_29 : decode cX1_offer 29 = .ok (.putfield 89, 3) := dk_181 0 89 (dk_at dksX1_offer_1 5 rfl rfl)
theorem dX1_offer_32 : decode cX1_offer 32 = .ok (.iconst (-1), 1) := dk_2 (dk_at dksX1_offer_1 8 rfl rfl)
theorem dX1_offer_33 : decode cX1_offer 33 = .ok (.ireturn, 1) := dk_172 (dk_at dksX1_offer_1 9 rfl rfl)
theorem dX1_offer_34 : decode cX1_offer 34 = .ok (.aload_n 0, 1) := dk_42 (dk_at dksX1_offer_1 10 rfl rfl)
theorem dX1_offer_35 : decode cX1_offer 35 = .ok (.aload 6, 2) := dk_25 6 (dk_at dksX1_offer_1 11 rfl rfl)
theorem dX1_offer_37 : decode cX1_offer 37 = .ok (.invokevirtual 76, 3) := dk_182 0 76 (dk_at dksX1_offer_1 13 rfl rfl)
theorem dX1_offer_40 : decode cX1_offer 40 = .ok (.aload 6, 2) := dk_25 6 (dk_at dksX1_offer_1 16 rfl rfl)
theorem dX1_offer_42 : decode cX1_offer 42 = .ok (.getfield 80, 3) := dk_180 0 80 (dk_at dksX1_offer_1 18 rfl rfl)
theorem dX1_offer_45 : decode cX1_offer 45 = .ok (.ireturn, 1) := dk_172 (dk_at dksX1_offer_1 21 rfl rfl)
abbrev cX1_isBarred : ByteArray := prog_1_method_58_code
def yX1_isBarred : MethodName := ⟨RX1, "isBarred", "(LLogGrammar$Event;)Z"⟩
def dkwX1_isBarred_9 : List UInt8 := [21, 4, 172]
abbrev dktX1_isBarred_9 : List UInt8 := dkwX1_isBarred_9 ++ []
def dkwX1_isBarred_8 : List UInt8 := [153, 0, 7, 4, 167, 0, 4, 3, 54, 4, 132, 7, 1, 167, 255, 171, 167, 255, 106, 42, 29, 181, 0, 172]
abbrev dktX1_isBarred_8 : List UInt8 := dkwX1_isBarred_8 ++ dktX1_isBarred_9
def dkwX1_isBarred_7 : List UInt8 := [25, 6, 180, 0, 230, 21, 7, 185, 0, 175, 2, 0, 192, 0, 233, 180, 0, 235, 192, 0, 239, 182, 0, 241]
abbrev dktX1_isBarred_7 : List UInt8 := dkwX1_isBarred_7 ++ dktX1_isBarred_8
def dkwX1_isBarred_6 : List UInt8 := [180, 0, 40, 21, 7, 46, 154, 0, 48, 21, 7, 42, 180, 0, 20, 185, 0, 157, 1, 0, 159, 0, 30]
abbrev dktX1_isBarred_6 : List UInt8 := dkwX1_isBarred_6 ++ dktX1_isBarred_7
def dkwX1_isBarred_5 : List UInt8 := [185, 0, 157, 1, 0, 162, 0, 80, 25, 6, 180, 1, 66, 153, 0, 72, 21, 4, 154, 0, 54, 42]
abbrev dktX1_isBarred_5 : List UInt8 := dkwX1_isBarred_5 ++ dktX1_isBarred_6
def dkwX1_isBarred_4 : List UInt8 := [2, 160, 0, 7, 3, 167, 0, 9, 4, 43, 180, 1, 72, 120, 128, 182, 1, 75, 3, 54, 7, 21, 7, 44]
abbrev dktX1_isBarred_4 : List UInt8 := dkwX1_isBarred_4 ++ dktX1_isBarred_5
def dkwX1_isBarred_3 : List UInt8 := [192, 0, 163, 58, 6, 25, 6, 180, 1, 66, 153, 0, 32, 25, 6, 44, 42, 182, 1, 69, 43, 180, 1, 72]
abbrev dktX1_isBarred_3 : List UInt8 := dkwX1_isBarred_3 ++ dktX1_isBarred_4
def dkwX1_isBarred_2 : List UInt8 := [185, 0, 200, 1, 0, 58, 5, 25, 5, 185, 0, 204, 1, 0, 153, 0, 146, 25, 5, 185, 0, 210, 1, 0]
abbrev dktX1_isBarred_2 : List UInt8 := dkwX1_isBarred_2 ++ dktX1_isBarred_3
def dkwX1_isBarred_1 : List UInt8 := [180, 0, 172, 43, 180, 0, 182, 184, 0, 220, 181, 0, 172, 3, 54, 4, 42, 180, 0, 37]
abbrev dktX1_isBarred_1 : List UInt8 := dkwX1_isBarred_1 ++ dktX1_isBarred_2
def dkwX1_isBarred_0 : List UInt8 := [187, 0, 17, 89, 42, 180, 0, 24, 183, 1, 63, 77, 44, 43, 184, 1, 55, 42, 180, 0, 172, 62, 42, 42]
abbrev dktX1_isBarred_0 : List UInt8 := dkwX1_isBarred_0 ++ dktX1_isBarred_1
theorem dksX1_isBarred_0 : cX1_isBarred.data.toList.drop 0 = dktX1_isBarred_0 := by decide +kernel
theorem dksX1_isBarred_1 : cX1_isBarred.data.toList.drop 24 = dktX1_isBarred_1 := dk_seg dksX1_isBarred_0 24 rfl rfl
theorem dksX1_isBarred_2 : cX1_isBarred.data.toList.drop 44 = dktX1_isBarred_2 := dk_seg dksX1_isBarred_1 20 rfl rfl
theorem dksX1_isBarred_3 : cX1_isBarred.data.toList.drop 68 = dktX1_isBarred_3 := dk_seg dksX1_isBarred_2 24 rfl rfl
theorem dksX1_isBarred_4 : cX1_isBarred.data.toList.drop 92 = dktX1_isBarred_4 := dk_seg dksX1_isBarred_3 24 rfl rfl
theorem dksX1_isBarred_5 : cX1_isBarred.data.toList.drop 116 = dktX1_isBarred_5 := dk_seg dksX1_isBarred_4 24 rfl rfl
theorem dksX1_isBarred_6 : cX1_isBarred.data.toList.drop 138 = dktX1_isBarred_6 := dk_seg dksX1_isBarred_5 22 rfl rfl
theorem dksX1_isBarred_7 : cX1_isBarred.data.toList.drop 161 = dktX1_isBarred_7 := dk_seg dksX1_isBarred_6 23 rfl rfl
theorem dksX1_isBarred_8 : cX1_isBarred.data.toList.drop 185 = dktX1_isBarred_8 := dk_seg dksX1_isBarred_7 24 rfl rfl
theorem dksX1_isBarred_9 : cX1_isBarred.data.toList.drop 209 = dktX1_isBarred_9 := dk_seg dksX1_isBarred_8 24 rfl rfl
theorem dX1_isBarred_0 : decode cX1_isBarred 0 = .ok (.new 17, 3) := dk_187 0 17 (dk_at dksX1_isBarred_0 0 rfl rfl)
theorem dX1_isBarred_3 : decode cX1_isBarred 3 = .ok (.dup, 1) := dk_89 (dk_at dksX1_isBarred_0 3 rfl rfl)
theorem dX1_isBarred_4 : decode cX1_isBarred 4 = .ok (.aload_n 0, 1) := dk_42 (dk_at dksX1_isBarred_0 4 rfl rfl)
theorem dX1_isBarred_5 : decode cX1_isBarred 5 = .ok (.getfield 24, 3) := dk_180 0 24 (dk_at dksX1_isBarred_0 5 rfl rfl)
theorem dX1_isBarred_8 : decode cX1_isBarred 8 = .ok (.invokespecial 319, 3) := dk_183 1 63 (dk_at dksX1_isBarred_0 8 rfl rfl)
theorem dX1_isBarred_11 : decode cX1_isBarred 11 = .ok (.astore_n 2, 1) := dk_77 (dk_at dksX1_isBarred_0 11 rfl rfl)
theorem dX1_isBarred_12 : decode cX1_isBarred 12 = .ok (.aload_n 2, 1) := dk_44 (dk_at dksX1_isBarred_0 12 rfl rfl)
theorem dX1_isBarred_13 : decode cX1_isBarred 13 = .ok (.aload_n 1, 1) := dk_43 (dk_at dksX1_isBarred_0 13 rfl rfl)
theorem dX1_isBarred_14 : decode cX1_isBarred 14 = .ok (.invokestatic 311, 3) := dk_184 1 55 (dk_at dksX1_isBarred_0 14 rfl rfl)
theorem dX1_isBarred_17 : decode cX1_isBarred 17 = .ok (.aload_n 0, 1) := dk_42 (dk_at dksX1_isBarred_0 17 rfl rfl)
theorem dX1_isBarred_18 : decode cX1_isBarred 18 = .ok (.getfield 172, 3) := dk_180 0 172 (dk_at dksX1_isBarred_0 18 rfl rfl)
theorem dX1_isBarred_21 : decode cX1_isBarred 21 = .ok (.istore_n 3, 1) := dk_62 (dk_at dksX1_isBarred_0 21 rfl rfl)
theorem dX1_isBarred_22 : decode cX1_isBarred 22 = .ok (.aload_n 0, 1) := dk_42 (dk_at dksX1_isBarred_0 22 rfl rfl)
theorem dX1_isBarred_23 : decode cX1_isBarred 23 = .ok (.aload_n 0, 1) := dk_42 (dk_at dksX1_isBarred_0 23 rfl rfl)
theorem dX1_isBarred_24 : decode cX1_isBarred 24 = .ok (.getfield 172, 3) := dk_180 0 172 (dk_at dksX1_isBarred_1 0 rfl rfl)
theorem dX1_isBarred_27 : decode cX1_isBarred 27 = .ok (.aload_n 1, 1) := dk_43 (dk_at dksX1_isBarred_1 3 rfl rfl)
theorem dX1_isBarred_28 : decode cX1_isBarred 28 = .ok (.getfield 182, 3) := dk_180 0 182 (dk_at dksX1_isBarred_1 4 rfl rfl)
theorem dX1_isBarred_31 : decode cX1_isBarred 31 = .ok (.invokestatic 220, 3) := dk_184 0 220 (dk_at dksX1_isBarred_1 7 rfl rfl)
theorem dX1_isBarred_34 : decode cX1_isBarred 34 = .ok (.putfield 172, 3) := dk_181 0 172 (dk_at dksX1_isBarred_1 10 rfl rfl)
theorem dX1_isBarred_37 : decode cX1_isBarred 37 = .ok (.iconst 0, 1) := dk_3 (dk_at dksX1_isBarred_1 13 rfl rfl)
theorem dX1_isBarred_38 : decode cX1_isBarred 38 = .ok (.istore 4, 2) := dk_54 4 (dk_at dksX1_isBarred_1 14 rfl rfl)
theorem dX1_isBarred_40 : decode cX1_isBarred 40 = .ok (.aload_n 0, 1) := dk_42 (dk_at dksX1_isBarred_1 16 rfl rfl)
theorem dX1_isBarred_41 : decode cX1_isBarred 41 = .ok (.getfield 37, 3) := dk_180 0 37 (dk_at dksX1_isBarred_1 17 rfl rfl)
theorem dX1_isBarred_44 : decode cX1_isBarred 44 = .ok (.invokeinterface 200 1, 5) := by decide +kernel
theorem dX1_isBarred_49 : decode cX1_isBarred 49 = .ok (.astore 5, 2) := dk_58 5 (dk_at dksX1_isBarred_2 5 rfl rfl)
theorem dX1_isBarred_51 : decode cX1_isBarred 51 = .ok (.aload 5, 2) := dk_25 5 (dk_at dksX1_isBarred_2 7 rfl rfl)
theorem dX1_isBarred_53 : decode cX1_isBarred 53 = .ok (.invokeinterface 204 1, 5) := by decide +kernel
theorem dX1_isBarred_58 : decode cX1_isBarred 58 = .ok (.ifCond .eq 146, 3) := dk_153 0 146 (dk_at dksX1_isBarred_2 14 rfl rfl)
theorem dX1_isBarred_61 : decode cX1_isBarred 61 = .ok (.aload 5, 2) := dk_25 5 (dk_at dksX1_isBarred_2 17 rfl rfl)
theorem dX1_isBarred_63 : decode cX1_isBarred 63 = .ok (.invokeinterface 210 1, 5) := by decide +kernel
theorem dX1_isBarred_68 : decode cX1_isBarred 68 = .ok (.checkcast 163, 3) := dk_192 0 163 (dk_at dksX1_isBarred_3 0 rfl rfl)
theorem dX1_isBarred_71 : decode cX1_isBarred 71 = .ok (.astore 6, 2) := dk_58 6 (dk_at dksX1_isBarred_3 3 rfl rfl)
theorem dX1_isBarred_73 : decode cX1_isBarred 73 = .ok (.aload 6, 2) := dk_25 6 (dk_at dksX1_isBarred_3 5 rfl rfl)
theorem dX1_isBarred_75 : decode cX1_isBarred 75 = .ok (.getfield 322, 3) := dk_180 1 66 (dk_at dksX1_isBarred_3 7 rfl rfl)
theorem dX1_isBarred_78 : decode cX1_isBarred 78 = .ok (.ifCond .eq 32, 3) := dk_153 0 32 (dk_at dksX1_isBarred_3 10 rfl rfl)
theorem dX1_isBarred_81 : decode cX1_isBarred 81 = .ok (.aload 6, 2) := dk_25 6 (dk_at dksX1_isBarred_3 13 rfl rfl)
theorem dX1_isBarred_83 : decode cX1_isBarred 83 = .ok (.aload_n 2, 1) := dk_44 (dk_at dksX1_isBarred_3 15 rfl rfl)
theorem dX1_isBarred_84 : decode cX1_isBarred 84 = .ok (.aload_n 0, 1) := dk_42 (dk_at dksX1_isBarred_3 16 rfl rfl)
theorem dX1_isBarred_85 : decode cX1_isBarred 85 = .ok (.invokevirtual 325, 3) := dk_182 1 69 (dk_at dksX1_isBarred_3 17 rfl rfl)
theorem dX1_isBarred_88 : decode cX1_isBarred 88 = .ok (.aload_n 1, 1) := dk_43 (dk_at dksX1_isBarred_3 20 rfl rfl)
theorem dX1_isBarred_89 : decode cX1_isBarred 89 = .ok (.getfield 328, 3) := dk_180 1 72 (dk_at dksX1_isBarred_3 21 rfl rfl)
theorem dX1_isBarred_92 : decode cX1_isBarred 92 = .ok (.iconst (-1), 1) := dk_2 (dk_at dksX1_isBarred_4 0 rfl rfl)
theorem dX1_isBarred_93 : decode cX1_isBarred 93 = .ok (.if_icmp .ne 7, 3) := dk_160 0 7 (dk_at dksX1_isBarred_4 1 rfl rfl)
theorem dX1_isBarred_96 : decode cX1_isBarred 96 = .ok (.iconst 0, 1) := dk_3 (dk_at dksX1_isBarred_4 4 rfl rfl)
theorem dX1_isBarred_97 : decode cX1_isBarred 97 = .ok (.goto 9, 3) := dk_167 0 9 (dk_at dksX1_isBarred_4 5 rfl rfl)
theorem dX1_isBarred_100 : decode cX1_isBarred 100 = .ok (.iconst 1, 1) := dk_4 (dk_at dksX1_isBarred_4 8 rfl rfl)
theorem dX1_isBarred_101 : decode cX1_isBarred 101 = .ok (.aload_n 1, 1) := dk_43 (dk_at dksX1_isBarred_4 9 rfl rfl)
theorem dX1_isBarred_102 : decode cX1_isBarred 102 = .ok (.getfield 328, 3) := dk_180 1 72 (dk_at dksX1_isBarred_4 10 rfl rfl)
theorem dX1_isBarred_105 : decode cX1_isBarred 105 = .ok (.ishl, 1) := dk_120 (dk_at dksX1_isBarred_4 13 rfl rfl)
theorem dX1_isBarred_106 : decode cX1_isBarred 106 = .ok (.ior, 1) := dk_128 (dk_at dksX1_isBarred_4 14 rfl rfl)
theorem dX1_isBarred_107 : decode cX1_isBarred 107 = .ok (.invokevirtual 331, 3) := dk_182 1 75 (dk_at dksX1_isBarred_4 15 rfl rfl)
theorem dX1_isBarred_110 : decode cX1_isBarred 110 = .ok (.iconst 0, 1) := dk_3 (dk_at dksX1_isBarred_4 18 rfl rfl)
theorem dX1_isBarred_111 : decode cX1_isBarred 111 = .ok (.istore 7, 2) := dk_54 7 (dk_at dksX1_isBarred_4 19 rfl rfl)
theorem dX1_isBarred_113 : decode cX1_isBarred 113 = .ok (.iload 7, 2) := dk_21 7 (dk_at dksX1_isBarred_4 21 rfl rfl)
theorem dX1_isBarred_115 : decode cX1_isBarred 115 = .ok (.aload_n 2, 1) := dk_44 (dk_at dksX1_isBarred_4 23 rfl rfl)
theorem dX1_isBarred_116 : decode cX1_isBarred 116 = .ok (.invokeinterface 157 1, 5) := by decide +kernel
theorem dX1_isBarred_121 : decode cX1_isBarred 121 = .ok (.if_icmp .ge 80, 3) := dk_162 0 80 (dk_at dksX1_isBarred_5 5 rfl rfl)
theorem dX1_isBarred_124 : decode cX1_isBarred 124 = .ok (.aload 6, 2) := dk_25 6 (dk_at dksX1_isBarred_5 8 rfl rfl)
theorem dX1_isBarred_126 : decode cX1_isBarred 126 = .ok (.getfield 322, 3) := dk_180 1 66 (dk_at dksX1_isBarred_5 10 rfl rfl)
theorem dX1_isBarred_129 : decode cX1_isBarred 129 = .ok (.ifCond .eq 72, 3) := dk_153 0 72 (dk_at dksX1_isBarred_5 13 rfl rfl)
theorem dX1_isBarred_132 : decode cX1_isBarred 132 = .ok (.iload 4, 2) := dk_21 4 (dk_at dksX1_isBarred_5 16 rfl rfl)
theorem dX1_isBarred_134 : decode cX1_isBarred 134 = .ok (.ifCond .ne 54, 3) := dk_154 0 54 (dk_at dksX1_isBarred_5 18 rfl rfl)
theorem dX1_isBarred_137 : decode cX1_isBarred 137 = .ok (.aload_n 0, 1) := dk_42 (dk_at dksX1_isBarred_5 21 rfl rfl)
theorem dX1_isBarred_138 : decode cX1_isBarred 138 = .ok (.getfield 40, 3) := dk_180 0 40 (dk_at dksX1_isBarred_6 0 rfl rfl)
theorem dX1_isBarred_141 : decode cX1_isBarred 141 = .ok (.iload 7, 2) := dk_21 7 (dk_at dksX1_isBarred_6 3 rfl rfl)
theorem dX1_isBarred_143 : decode cX1_isBarred 143 = .ok (.iaload, 1) := dk_46 (dk_at dksX1_isBarred_6 5 rfl rfl)
theorem dX1_isBarred_144 : decode cX1_isBarred 144 = .ok (.ifCond .ne 48, 3) := dk_154 0 48 (dk_at dksX1_isBarred_6 6 rfl rfl)
theorem dX1_isBarred_147 : decode cX1_isBarred 147 = .ok (.iload 7, 2) := dk_21 7 (dk_at dksX1_isBarred_6 9 rfl rfl)
theorem dX1_isBarred_149 : decode cX1_isBarred 149 = .ok (.aload_n 0, 1) := dk_42 (dk_at dksX1_isBarred_6 11 rfl rfl)
theorem dX1_isBarred_150 : decode cX1_isBarred 150 = .ok (.getfield 20, 3) := dk_180 0 20 (dk_at dksX1_isBarred_6 12 rfl rfl)
theorem dX1_isBarred_153 : decode cX1_isBarred 153 = .ok (.invokeinterface 157 1, 5) := by decide +kernel
theorem dX1_isBarred_158 : decode cX1_isBarred 158 = .ok (.if_icmp .eq 30, 3) := dk_159 0 30 (dk_at dksX1_isBarred_6 20 rfl rfl)
theorem dX1_isBarred_161 : decode cX1_isBarred 161 = .ok (.aload 6, 2) := dk_25 6 (dk_at dksX1_isBarred_7 0 rfl rfl)
theorem dX1_isBarred_163 : decode cX1_isBarred 163 = .ok (.getfield 230, 3) := dk_180 0 230 (dk_at dksX1_isBarred_7 2 rfl rfl)
theorem dX1_isBarred_166 : decode cX1_isBarred 166 = .ok (.iload 7, 2) := dk_21 7 (dk_at dksX1_isBarred_7 5 rfl rfl)
theorem dX1_isBarred_168 : decode cX1_isBarred 168 = .ok (.invokeinterface 175 2, 5) := by decide +kernel
theorem dX1_isBarred_173 : decode cX1_isBarred 173 = .ok (.checkcast 233, 3) := dk_192 0 233 (dk_at dksX1_isBarred_7 12 rfl rfl)
theorem dX1_isBarred_176 : decode cX1_isBarred 176 = .ok (.getfield 235, 3) := dk_180 0 235 (dk_at dksX1_isBarred_7 15 rfl rfl)
theorem dX1_isBarred_179 : decode cX1_isBarred 179 = .ok (.checkcast 239, 3) := dk_192 0 239 (dk_at dksX1_isBarred_7 18 rfl rfl)
theorem dX1_isBarred_182 : decode cX1_isBarred 182 = .ok (.invokevirtual 241, 3) := dk_182 0 241 (dk_at dksX1_isBarred_7 21 rfl rfl)
theorem dX1_isBarred_185 : decode cX1_isBarred 185 = .ok (.ifCond .eq 7, 3) := dk_153 0 7 (dk_at dksX1_isBarred_8 0 rfl rfl)
theorem dX1_isBarred_188 : decode cX1_isBarred 188 = .ok (.iconst 1, 1) := dk_4 (dk_at dksX1_isBarred_8 3 rfl rfl)
theorem dX1_isBarred_189 : decode cX1_isBarred 189 = .ok (.goto 4, 3) := dk_167 0 4 (dk_at dksX1_isBarred_8 4 rfl rfl)
theorem dX1_isBarred_192 : decode cX1_isBarred 192 = .ok (.iconst 0, 1) := dk_3 (dk_at dksX1_isBarred_8 7 rfl rfl)
theorem dX1_isBarred_193 : decode cX1_isBarred 193 = .ok (.istore 4, 2) := dk_54 4 (dk_at dksX1_isBarred_8 8 rfl rfl)
theorem dX1_isBarred_195 : decode cX1_isBarred 195 = .ok (.iinc 7 1, 3) := dk_132 7 1 (dk_at dksX1_isBarred_8 10 rfl rfl)
theorem dX1_isBarred_198 : decode cX1_isBarred 198 = .ok (.goto (-85), 3) := dk_167 255 171 (dk_at dksX1_isBarred_8 13 rfl rfl)
theorem dX1_isBarred_201 : decode cX1_isBarred 201 = .ok (.goto (-150), 3) := dk_167 255 106 (dk_at dksX1_isBarred_8 16 rfl rfl)
theorem dX1_isBarred_204 : decode cX1_isBarred 204 = .ok (.aload_n 0, 1) := dk_42 (dk_at dksX1_isBarred_8 19 rfl rfl)
theorem dX1_isBarred_205 : decode cX1_isBarred 205 = .ok (.iload_n 3, 1) := dk_29 (dk_at dksX1_isBarred_8 20 rfl rfl)
theorem dX1_isBarred_206 : decode cX1_isBarred 206 = .ok (.putfield 172, 3) := dk_181 0 172 (dk_at dksX1_isBarred_8 21 rfl rfl)
theorem dX1_isBarred_209 : decode cX1_isBarred 209 = .ok (.iload 4, 2) := dk_21 4 (dk_at dksX1_isBarred_9 0 rfl rfl)
theorem dX1_isBarred_211 : decode cX1_isBarred 211 = .ok (.ireturn, 1) := dk_172 (dk_at dksX1_isBarred_9 2 rfl rfl)
abbrev cX1_close : ByteArray := prog_1_method_9_code
def yX1_close : MethodName := ⟨RX1, "close", "()I"⟩
def dkwX1_close_1 : List UInt8 := [182, 0, 95, 100, 172]
abbrev dktX1_close_1 : List UInt8 := dkwX1_close_1 ++ []
def dkwX1_close_0 : List UInt8 := [42, 180, 0, 30, 184, 0, 92, 42, 182, 0, 95, 60, 42, 3, 181, 0, 30, 42, 182, 0, 99, 27, 42]
abbrev dktX1_close_0 : List UInt8 := dkwX1_close_0 ++ dktX1_close_1
theorem dksX1_close_0 : cX1_close.data.toList.drop 0 = dktX1_close_0 := by decide +kernel
theorem dksX1_close_1 : cX1_close.data.toList.drop 23 = dktX1_close_1 := dk_seg dksX1_close_0 23 rfl rfl
theorem dX1_close_0 : decode cX1_close 0 = .ok (.aload_n 0, 1) := dk_42 (dk_at dksX1_close_0 0 rfl rfl)
theorem dX1_close_1 : decode cX1_close 1 = .ok (.getfield 30, 3) := dk_180 0 30 (dk_at dksX1_close_0 1 rfl rfl)
theorem dX1_close_4 : decode cX1_close 4 = .ok (.invokestatic 92, 3) := dk_184 0 92 (dk_at dksX1_close_0 4 rfl rfl)
theorem dX1_close_7 : decode cX1_close 7 = .ok (.aload_n 0, 1) := dk_42 (dk_at dksX1_close_0 7 rfl rfl)
theorem dX1_close_8 : decode cX1_close 8 = .ok (.invokevirtual 95, 3) := dk_182 0 95 (dk_at dksX1_close_0 8 rfl rfl)
theorem dX1_close_11 : decode cX1_close 11 = .ok (.istore_n 1, 1) := dk_60 (dk_at dksX1_close_0 11 rfl rfl)
theorem dX1_close_12 : decode cX1_close 12 = .ok (.aload_n 0, 1) := dk_42 (dk_at dksX1_close_0 12 rfl rfl)
theorem dX1_close_13 : decode cX1_close 13 = .ok (.iconst 0, 1) := dk_3 (dk_at dksX1_close_0 13 rfl rfl)
theorem dX1_close_14 : decode cX1_close 14 = .ok (.putfield 30, 3) := dk_181 0 30 (dk_at dksX1_close_0 14 rfl rfl)
theorem dX1_close_17 : decode cX1_close 17 = .ok (.aload_n 0, 1) := dk_42 (dk_at dksX1_close_0 17 rfl rfl)
theorem dX1_close_18 : decode cX1_close 18 = .ok (.invokevirtual 99, 3) := dk_182 0 99 (dk_at dksX1_close_0 18 rfl rfl)
theorem dX1_close_21 : decode cX1_close 21 = .ok (.iload_n 1, 1) := dk_27 (dk_at dksX1_close_0 21 rfl rfl)
theorem dX1_close_22 : decode cX1_close 22 = .ok (.aload_n 0, 1) := dk_42 (dk_at dksX1_close_0 22 rfl rfl)
theorem dX1_close_23 : decode cX1_close 23 = .ok (.invokevirtual 95, 3) := dk_182 0 95 (dk_at dksX1_close_1 0 rfl rfl)
theorem dX1_close_26 : decode cX1_close 26 = .ok (.isub, 1) := dk_100 (dk_at dksX1_close_1 3 rfl rfl)
theorem dX1_close_27 : decode cX1_close 27 = .ok (.ireturn, 1) := dk_172 (dk_at dksX1_close_1 4 rfl rfl)
abbrev cX1_openMany : ByteArray := prog_1_method_62_code
def yX1_openMany : MethodName := ⟨RX1, "openMany", "()I"⟩
def dkwX1_openMany_4 : List UInt8 := [167, 255, 178, 27, 172]
abbrev dktX1_openMany_4 : List UInt8 := dkwX1_openMany_4 ++ []
def dkwX1_openMany_3 : List UInt8 := [180, 0, 235, 192, 0, 239, 182, 0, 241, 5, 160, 0, 7, 4, 167, 0, 4, 3, 96, 60, 167, 255, 211]
abbrev dktX1_openMany_3 : List UInt8 := dkwX1_openMany_3 ++ dktX1_openMany_4
def dkwX1_openMany_2 : List UInt8 := [185, 0, 204, 1, 0, 153, 0, 41, 25, 4, 185, 0, 210, 1, 0, 192, 0, 233, 58, 5, 27, 25, 5]
abbrev dktX1_openMany_2 : List UInt8 := dkwX1_openMany_2 ++ dktX1_openMany_3
def dkwX1_openMany_1 : List UInt8 := [185, 0, 210, 1, 0, 192, 0, 163, 78, 45, 180, 0, 230, 185, 0, 200, 1, 0, 58, 4, 25, 4]
abbrev dktX1_openMany_1 : List UInt8 := dkwX1_openMany_1 ++ dktX1_openMany_2
def dkwX1_openMany_0 : List UInt8 := [3, 60, 42, 180, 0, 37, 185, 0, 200, 1, 0, 77, 44, 185, 0, 204, 1, 0, 153, 0, 75, 44]
abbrev dktX1_openMany_0 : List UInt8 := dkwX1_openMany_0 ++ dktX1_openMany_1
theorem dksX1_openMany_0 : cX1_openMany.data.toList.drop 0 = dktX1_openMany_0 := by decide +kernel
theorem dksX1_openMany_1 : cX1_openMany.data.toList.drop 22 = dktX1_openMany_1 := dk_seg dksX1_openMany_0 22 rfl rfl
theorem dksX1_openMany_2 : cX1_openMany.data.toList.drop 44 = dktX1_openMany_2 := dk_seg dksX1_openMany_1 22 rfl rfl
theorem dksX1_openMany_3 : cX1_openMany.data.toList.drop 67 = dktX1_openMany_3 := dk_seg dksX1_openMany_2 23 rfl rfl
theorem dksX1_openMany_4 : cX1_openMany.data.toList.drop 90 = dktX1_openMany_4 := dk_seg dksX1_openMany_3 23 rfl rfl
theorem dX1_openMany_0 : decode cX1_openMany 0 = .ok (.iconst 0, 1) := dk_3 (dk_at dksX1_openMany_0 0 rfl rfl)
theorem dX1_openMany_1 : decode cX1_openMany 1 = .ok (.istore_n 1, 1) := dk_60 (dk_at dksX1_openMany_0 1 rfl rfl)
theorem dX1_openMany_2 : decode cX1_openMany 2 = .ok (.aload_n 0, 1) := dk_42 (dk_at dksX1_openMany_0 2 rfl rfl)
theorem dX1_openMany_3 : decode cX1_openMany 3 = .ok (.getfield 37, 3) := dk_180 0 37 (dk_at dksX1_openMany_0 3 rfl rfl)
theorem dX1_openMany_6 : decode cX1_openMany 6 = .ok (.invokeinterface 200 1, 5) := by decide +kernel
theorem dX1_openMany_11 : decode cX1_openMany 11 = .ok (.astore_n 2, 1) := dk_77 (dk_at dksX1_openMany_0 11 rfl rfl)
theorem dX1_openMany_12 : decode cX1_openMany 12 = .ok (.aload_n 2, 1) := dk_44 (dk_at dksX1_openMany_0 12 rfl rfl)
theorem dX1_openMany_13 : decode cX1_openMany 13 = .ok (.invokeinterface 204 1, 5) := by decide +kernel
theorem dX1_openMany_18 : decode cX1_openMany 18 = .ok (.ifCond .eq 75, 3) := dk_153 0 75 (dk_at dksX1_openMany_0 18 rfl rfl)
theorem dX1_openMany_21 : decode cX1_openMany 21 = .ok (.aload_n 2, 1) := dk_44 (dk_at dksX1_openMany_0 21 rfl rfl)
theorem dX1_openMany_22 : decode cX1_openMany 22 = .ok (.invokeinterface 210 1, 5) := by decide +kernel
theorem dX1_openMany_27 : decode cX1_openMany 27 = .ok (.checkcast 163, 3) := dk_192 0 163 (dk_at dksX1_openMany_1 5 rfl rfl)
theorem dX1_openMany_30 : decode cX1_openMany 30 = .ok (.astore_n 3, 1) := dk_78 (dk_at dksX1_openMany_1 8 rfl rfl)
theorem dX1_openMany_31 : decode cX1_openMany 31 = .ok (.aload_n 3, 1) := dk_45 (dk_at dksX1_openMany_1 9 rfl rfl)
theorem dX1_openMany_32 : decode cX1_openMany 32 = .ok (.getfield 230, 3) := dk_180 0 230 (dk_at dksX1_openMany_1 10 rfl rfl)
theorem dX1_openMany_35 : decode cX1_openMany 35 = .ok (.invokeinterface 200 1, 5) := by decide +kernel
theorem dX1_openMany_40 : decode cX1_openMany 40 = .ok (.astore 4, 2) := dk_58 4 (dk_at dksX1_openMany_1 18 rfl rfl)
theorem dX1_openMany_42 : decode cX1_openMany 42 = .ok (.aload 4, 2) := dk_25 4 (dk_at dksX1_openMany_1 20 rfl rfl)
theorem dX1_openMany_44 : decode cX1_openMany 44 = .ok (.invokeinterface 204 1, 5) := by decide +kernel
theorem dX1_openMany_49 : decode cX1_openMany 49 = .ok (.ifCond .eq 41, 3) := dk_153 0 41 (dk_at dksX1_openMany_2 5 rfl rfl)
theorem dX1_openMany_52 : decode cX1_openMany 52 = .ok (.aload 4, 2) := dk_25 4 (dk_at dksX1_openMany_2 8 rfl rfl)
theorem dX1_openMany_54 : decode cX1_openMany 54 = .ok (.invokeinterface 210 1, 5) := by decide +kernel
theorem dX1_openMany_59 : decode cX1_openMany 59 = .ok (.checkcast 233, 3) := dk_192 0 233 (dk_at dksX1_openMany_2 15 rfl rfl)
theorem dX1_openMany_62 : decode cX1_openMany 62 = .ok (.astore 5, 2) := dk_58 5 (dk_at dksX1_openMany_2 18 rfl rfl)
theorem dX1_openMany_64 : decode cX1_openMany 64 = .ok (.iload_n 1, 1) := dk_27 (dk_at dksX1_openMany_2 20 rfl rfl)
theorem dX1_openMany_65 : decode cX1_openMany 65 = .ok (.aload 5, 2) := dk_25 5 (dk_at dksX1_openMany_2 21 rfl rfl)
theorem dX1_openMany_67 : decode cX1_openMany 67 = .ok (.getfield 235, 3) := dk_180 0 235 (dk_at dksX1_openMany_3 0 rfl rfl)
theorem dX1_openMany_70 : decode cX1_openMany 70 = .ok (.checkcast 239, 3) := dk_192 0 239 (dk_at dksX1_openMany_3 3 rfl rfl)
theorem dX1_openMany_73 : decode cX1_openMany 73 = .ok (.invokevirtual 241, 3) := dk_182 0 241 (dk_at dksX1_openMany_3 6 rfl rfl)
theorem dX1_openMany_76 : decode cX1_openMany 76 = .ok (.iconst 2, 1) := dk_5 (dk_at dksX1_openMany_3 9 rfl rfl)
theorem dX1_openMany_77 : decode cX1_openMany 77 = .ok (.if_icmp .ne 7, 3) := dk_160 0 7 (dk_at dksX1_openMany_3 10 rfl rfl)
theorem dX1_openMany_80 : decode cX1_openMany 80 = .ok (.iconst 1, 1) := dk_4 (dk_at dksX1_openMany_3 13 rfl rfl)
theorem dX1_openMany_81 : decode cX1_openMany 81 = .ok (.goto 4, 3) := dk_167 0 4 (dk_at dksX1_openMany_3 14 rfl rfl)
theorem dX1_openMany_84 : decode cX1_openMany 84 = .ok (.iconst 0, 1) := dk_3 (dk_at dksX1_openMany_3 17 rfl rfl)
theorem dX1_openMany_85 : decode cX1_openMany 85 = .ok (.iadd, 1) := dk_96 (dk_at dksX1_openMany_3 18 rfl rfl)
theorem dX1_openMany_86 : decode cX1_openMany 86 = .ok (.istore_n 1, 1) := dk_60 (dk_at dksX1_openMany_3 19 rfl rfl)
theorem dX1_openMany_87 : decode cX1_openMany 87 = .ok (.goto (-45), 3) := dk_167 255 211 (dk_at dksX1_openMany_3 20 rfl rfl)
theorem dX1_openMany_90 : decode cX1_openMany 90 = .ok (.goto (-78), 3) := dk_167 255 178 (dk_at dksX1_openMany_4 0 rfl rfl)
theorem dX1_openMany_93 : decode cX1_openMany 93 = .ok (.iload_n 1, 1) := dk_27 (dk_at dksX1_openMany_4 3 rfl rfl)
theorem dX1_openMany_94 : decode cX1_openMany 94 = .ok (.ireturn, 1) := dk_172 (dk_at dksX1_openMany_4 4 rfl rfl)
abbrev cX1_kindIs : ByteArray := prog_1_method_10_code
def yX1_kindIs : MethodName := ⟨RX1, "kindIs", "(I)I"⟩
def dkwX1_kindIs_1 : List UInt8 := [183, 0, 110, 182, 0, 113, 172]
abbrev dktX1_kindIs_1 : List UInt8 := dkwX1_kindIs_1 ++ []
def dkwX1_kindIs_0 : List UInt8 := [27, 3, 16, 7, 184, 0, 65, 184, 0, 69, 42, 187, 0, 102, 89, 178, 0, 104, 27, 3, 1, 1]
abbrev dktX1_kindIs_0 : List UInt8 := dkwX1_kindIs_0 ++ dktX1_kindIs_1
theorem dksX1_kindIs_0 : cX1_kindIs.data.toList.drop 0 = dktX1_kindIs_0 := by decide +kernel
theorem dksX1_kindIs_1 : cX1_kindIs.data.toList.drop 22 = dktX1_kindIs_1 := dk_seg dksX1_kindIs_0 22 rfl rfl
theorem dX1_kindIs_0 : decode cX1_kindIs 0 = .ok (.iload_n 1, 1) := dk_27 (dk_at dksX1_kindIs_0 0 rfl rfl)
theorem dX1_kindIs_1 : decode cX1_kindIs 1 = .ok (.iconst 0, 1) := dk_3 (dk_at dksX1_kindIs_0 1 rfl rfl)
theorem dX1_kindIs_2 : decode cX1_kindIs 2 = .ok (.bipush 7, 2) := dk_16 7 (dk_at dksX1_kindIs_0 2 rfl rfl)
theorem dX1_kindIs_4 : decode cX1_kindIs 4 = .ok (.invokestatic 65, 3) := dk_184 0 65 (dk_at dksX1_kindIs_0 4 rfl rfl)
theorem dX1_kindIs_7 : decode cX1_kindIs 7 = .ok (.invokestatic 69, 3) := dk_184 0 69 (dk_at dksX1_kindIs_0 7 rfl rfl)
theorem dX1_kindIs_10 : decode cX1_kindIs 10 = .ok (.aload_n 0, 1) := dk_42 (dk_at dksX1_kindIs_0 10 rfl rfl)
theorem dX1_kindIs_11 : decode cX1_kindIs 11 = .ok (.new 102, 3) := dk_187 0 102 (dk_at dksX1_kindIs_0 11 rfl rfl)
theorem dX1_kindIs_14 : decode cX1_kindIs 14 = .ok (.dup, 1) := dk_89 (dk_at dksX1_kindIs_0 14 rfl rfl)
theorem dX1_kindIs_15 : decode cX1_kindIs 15 = .ok (.getstatic 104, 3) := dk_178 0 104 (dk_at dksX1_kindIs_0 15 rfl rfl)
theorem dX1_kindIs_18 : decode cX1_kindIs 18 = .ok (.iload_n 1, 1) := dk_27 (dk_at dksX1_kindIs_0 18 rfl rfl)
theorem dX1_kindIs_19 : decode cX1_kindIs 19 = .ok (.iconst 0, 1) := dk_3 (dk_at dksX1_kindIs_0 19 rfl rfl)
theorem dX1_kindIs_20 : decode cX1_kindIs 20 = .ok (.aconst_null, 1) := dk_1 (dk_at dksX1_kindIs_0 20 rfl rfl)
theorem dX1_kindIs_21 : decode cX1_kindIs 21 = .ok (.aconst_null, 1) := dk_1 (dk_at dksX1_kindIs_0 21 rfl rfl)
theorem dX1_kindIs_22 : decode cX1_kindIs 22 = .ok (.invokespecial 110, 3) := dk_183 0 110 (dk_at dksX1_kindIs_1 0 rfl rfl)
theorem dX1_kindIs_25 : decode cX1_kindIs 25 = .ok (.invokevirtual 113, 3) := dk_182 0 113 (dk_at dksX1_kindIs_1 3 rfl rfl)
theorem dX1_kindIs_28 : decode cX1_kindIs 28 = .ok (.ireturn, 1) := dk_172 (dk_at dksX1_kindIs_1 6 rfl rfl)
abbrev cX1_put : ByteArray := prog_1_method_63_code
def yX1_put : MethodName := ⟨RX1, "put", "(LLogGrammar$Formula;)I"⟩
def dkwX1_put_1 : List UInt8 := [180, 0, 34, 43, 185, 0, 51, 2, 0, 87, 42, 180, 0, 34, 185, 0, 157, 1, 0, 172]
abbrev dktX1_put_1 : List UInt8 := dkwX1_put_1 ++ []
def dkwX1_put_0 : List UInt8 := [42, 180, 0, 34, 185, 0, 157, 1, 0, 16, 8, 162, 0, 7, 4, 167, 0, 4, 3, 184, 0, 92, 42]
abbrev dktX1_put_0 : List UInt8 := dkwX1_put_0 ++ dktX1_put_1
theorem dksX1_put_0 : cX1_put.data.toList.drop 0 = dktX1_put_0 := by decide +kernel
theorem dksX1_put_1 : cX1_put.data.toList.drop 23 = dktX1_put_1 := dk_seg dksX1_put_0 23 rfl rfl
theorem dX1_put_0 : decode cX1_put 0 = .ok (.aload_n 0, 1) := dk_42 (dk_at dksX1_put_0 0 rfl rfl)
theorem dX1_put_1 : decode cX1_put 1 = .ok (.getfield 34, 3) := dk_180 0 34 (dk_at dksX1_put_0 1 rfl rfl)
theorem dX1_put_4 : decode cX1_put 4 = .ok (.invokeinterface 157 1, 5) := by decide +kernel
theorem dX1_put_9 : decode cX1_put 9 = .ok (.bipush 8, 2) := dk_16 8 (dk_at dksX1_put_0 9 rfl rfl)
theorem dX1_put_11 : decode cX1_put 11 = .ok (.if_icmp .ge 7, 3) := dk_162 0 7 (dk_at dksX1_put_0 11 rfl rfl)
theorem dX1_put_14 : decode cX1_put 14 = .ok (.iconst 1, 1) := dk_4 (dk_at dksX1_put_0 14 rfl rfl)
theorem dX1_put_15 : decode cX1_put 15 = .ok (.goto 4, 3) := dk_167 0 4 (dk_at dksX1_put_0 15 rfl rfl)
theorem dX1_put_18 : decode cX1_put 18 = .ok (.iconst 0, 1) := dk_3 (dk_at dksX1_put_0 18 rfl rfl)
theorem dX1_put_19 : decode cX1_put 19 = .ok (.invokestatic 92, 3) := dk_184 0 92 (dk_at dksX1_put_0 19 rfl rfl)
theorem dX1_put_22 : decode cX1_put 22 = .ok (.aload_n 0, 1) := dk_42 (dk_at dksX1_put_0 22 rfl rfl)
theorem dX1_put_23 : decode cX1_put 23 = .ok (.getfield 34, 3) := dk_180 0 34 (dk_at dksX1_put_1 0 rfl rfl)
theorem dX1_put_26 : decode cX1_put 26 = .ok (.aload_n 1, 1) := dk_43 (dk_at dksX1_put_1 3 rfl rfl)
theorem dX1_put_27 : decode cX1_put 27 = .ok (.invokeinterface 51 2, 5) := by decide +kernel
theorem dX1_put_32 : decode cX1_put 32 = .ok (.pop, 1) := dk_87 (dk_at dksX1_put_1 9 rfl rfl)
theorem dX1_put_33 : decode cX1_put 33 = .ok (.aload_n 0, 1) := dk_42 (dk_at dksX1_put_1 10 rfl rfl)
theorem dX1_put_34 : decode cX1_put 34 = .ok (.getfield 34, 3) := dk_180 0 34 (dk_at dksX1_put_1 11 rfl rfl)
theorem dX1_put_37 : decode cX1_put 37 = .ok (.invokeinterface 157 1, 5) := by decide +kernel
theorem dX1_put_42 : decode cX1_put 42 = .ok (.ireturn, 1) := dk_172 (dk_at dksX1_put_1 19 rfl rfl)
abbrev cX1_valueIs : ByteArray := prog_1_method_11_code
def yX1_valueIs : MethodName := ⟨RX1, "valueIs", "(II)I"⟩
def dkwX1_valueIs_2 : List UInt8 := [182, 0, 113, 172]
abbrev dktX1_valueIs_2 : List UInt8 := dkwX1_valueIs_2 ++ []
def dkwX1_valueIs_1 : List UInt8 := [167, 0, 4, 3, 184, 0, 69, 42, 187, 0, 102, 89, 178, 0, 117, 27, 28, 1, 1, 183, 0, 110]
abbrev dktX1_valueIs_1 : List UInt8 := dkwX1_valueIs_1 ++ dktX1_valueIs_2
def dkwX1_valueIs_0 : List UInt8 := [27, 3, 5, 184, 0, 65, 153, 0, 20, 28, 17, 252, 24, 17, 3, 232, 184, 0, 65, 153, 0, 7, 4]
abbrev dktX1_valueIs_0 : List UInt8 := dkwX1_valueIs_0 ++ dktX1_valueIs_1
theorem dksX1_valueIs_0 : cX1_valueIs.data.toList.drop 0 = dktX1_valueIs_0 := by decide +kernel
theorem dksX1_valueIs_1 : cX1_valueIs.data.toList.drop 23 = dktX1_valueIs_1 := dk_seg dksX1_valueIs_0 23 rfl rfl
theorem dksX1_valueIs_2 : cX1_valueIs.data.toList.drop 45 = dktX1_valueIs_2 := dk_seg dksX1_valueIs_1 22 rfl rfl
theorem dX1_valueIs_0 : decode cX1_valueIs 0 = .ok (.iload_n 1, 1) := dk_27 (dk_at dksX1_valueIs_0 0 rfl rfl)
theorem dX1_valueIs_1 : decode cX1_valueIs 1 = .ok (.iconst 0, 1) := dk_3 (dk_at dksX1_valueIs_0 1 rfl rfl)
theorem dX1_valueIs_2 : decode cX1_valueIs 2 = .ok (.iconst 2, 1) := dk_5 (dk_at dksX1_valueIs_0 2 rfl rfl)
theorem dX1_valueIs_3 : decode cX1_valueIs 3 = .ok (.invokestatic 65, 3) := dk_184 0 65 (dk_at dksX1_valueIs_0 3 rfl rfl)
theorem dX1_valueIs_6 : decode cX1_valueIs 6 = .ok (.ifCond .eq 20, 3) := dk_153 0 20 (dk_at dksX1_valueIs_0 6 rfl rfl)
theorem dX1_valueIs_9 : decode cX1_valueIs 9 = .ok (.iload_n 2, 1) := dk_28 (dk_at dksX1_valueIs_0 9 rfl rfl)
theorem dX1_valueIs_10 : decode cX1_valueIs 10 = .ok (.sipush (-1000), 3) := dk_17 252 24 (dk_at dksX1_valueIs_0 10 rfl rfl)
theorem dX1_valueIs_13 : decode cX1_valueIs 13 = .ok (.sipush 1000, 3) := dk_17 3 232 (dk_at dksX1_valueIs_0 13 rfl rfl)
theorem dX1_valueIs_16 : decode cX1_valueIs 16 = .ok (.invokestatic 65, 3) := dk_184 0 65 (dk_at dksX1_valueIs_0 16 rfl rfl)
theorem dX1_valueIs_19 : decode cX1_valueIs 19 = .ok (.ifCond .eq 7, 3) := dk_153 0 7 (dk_at dksX1_valueIs_0 19 rfl rfl)
theorem dX1_valueIs_22 : decode cX1_valueIs 22 = .ok (.iconst 1, 1) := dk_4 (dk_at dksX1_valueIs_0 22 rfl rfl)
theorem dX1_valueIs_23 : decode cX1_valueIs 23 = .ok (.goto 4, 3) := dk_167 0 4 (dk_at dksX1_valueIs_1 0 rfl rfl)
theorem dX1_valueIs_26 : decode cX1_valueIs 26 = .ok (.iconst 0, 1) := dk_3 (dk_at dksX1_valueIs_1 3 rfl rfl)
theorem dX1_valueIs_27 : decode cX1_valueIs 27 = .ok (.invokestatic 69, 3) := dk_184 0 69 (dk_at dksX1_valueIs_1 4 rfl rfl)
theorem dX1_valueIs_30 : decode cX1_valueIs 30 = .ok (.aload_n 0, 1) := dk_42 (dk_at dksX1_valueIs_1 7 rfl rfl)
theorem dX1_valueIs_31 : decode cX1_valueIs 31 = .ok (.new 102, 3) := dk_187 0 102 (dk_at dksX1_valueIs_1 8 rfl rfl)
theorem dX1_valueIs_34 : decode cX1_valueIs 34 = .ok (.dup, 1) := dk_89 (dk_at dksX1_valueIs_1 11 rfl rfl)
theorem dX1_valueIs_35 : decode cX1_valueIs 35 = .ok (.getstatic 117, 3) := dk_178 0 117 (dk_at dksX1_valueIs_1 12 rfl rfl)
theorem dX1_valueIs_38 : decode cX1_valueIs 38 = .ok (.iload_n 1, 1) := dk_27 (dk_at dksX1_valueIs_1 15 rfl rfl)
theorem dX1_valueIs_39 : decode cX1_valueIs 39 = .ok (.iload_n 2, 1) := dk_28 (dk_at dksX1_valueIs_1 16 rfl rfl)
theorem dX1_valueIs_40 : decode cX1_valueIs 40 = .ok (.aconst_null, 1) := dk_1 (dk_at dksX1_valueIs_1 17 rfl rfl)
theorem dX1_valueIs_41 : decode cX1_valueIs 41 = .ok (.aconst_null, 1) := dk_1 (dk_at dksX1_valueIs_1 18 rfl rfl)
theorem dX1_valueIs_42 : decode cX1_valueIs 42 = .ok (.invokespecial 110, 3) := dk_183 0 110 (dk_at dksX1_valueIs_1 19 rfl rfl)
theorem dX1_valueIs_45 : decode cX1_valueIs 45 = .ok (.invokevirtual 113, 3) := dk_182 0 113 (dk_at dksX1_valueIs_2 0 rfl rfl)
theorem dX1_valueIs_48 : decode cX1_valueIs 48 = .ok (.ireturn, 1) := dk_172 (dk_at dksX1_valueIs_2 3 rfl rfl)
abbrev cX1_not : ByteArray := prog_1_method_12_code
def yX1_not : MethodName := ⟨RX1, "not", "()I"⟩
def dkwX1_not_0 : List UInt8 := [42, 178, 0, 120, 4, 3, 3, 182, 0, 123, 172]
abbrev dktX1_not_0 : List UInt8 := dkwX1_not_0 ++ []
theorem dksX1_not_0 : cX1_not.data.toList.drop 0 = dktX1_not_0 := by decide +kernel
theorem dX1_not_0 : decode cX1_not 0 = .ok (.aload_n 0, 1) := dk_42 (dk_at dksX1_not_0 0 rfl rfl)
theorem dX1_not_1 : decode cX1_not 1 = .ok (.getstatic 120, 3) := dk_178 0 120 (dk_at dksX1_not_0 1 rfl rfl)
theorem dX1_not_4 : decode cX1_not 4 = .ok (.iconst 1, 1) := dk_4 (dk_at dksX1_not_0 4 rfl rfl)
theorem dX1_not_5 : decode cX1_not 5 = .ok (.iconst 0, 1) := dk_3 (dk_at dksX1_not_0 5 rfl rfl)
theorem dX1_not_6 : decode cX1_not 6 = .ok (.iconst 0, 1) := dk_3 (dk_at dksX1_not_0 6 rfl rfl)
theorem dX1_not_7 : decode cX1_not 7 = .ok (.invokevirtual 123, 3) := dk_182 0 123 (dk_at dksX1_not_0 7 rfl rfl)
theorem dX1_not_10 : decode cX1_not 10 = .ok (.ireturn, 1) := dk_172 (dk_at dksX1_not_0 10 rfl rfl)
abbrev cX1_join : ByteArray := prog_1_method_64_code
def yX1_join : MethodName := ⟨RX1, "join", "(LLogGrammar$Sort;III)I"⟩
def dkwX1_join_7 : List UInt8 := [180, 0, 34, 25, 7, 185, 0, 51, 2, 0, 87, 42, 180, 0, 34, 185, 0, 157, 1, 0, 172]
abbrev dktX1_join_7 : List UInt8 := dkwX1_join_7 ++ []
def dkwX1_join_6 : List UInt8 := [180, 0, 34, 185, 0, 157, 1, 0, 4, 100, 185, 0, 165, 2, 0, 87, 132, 8, 1, 167, 255, 226, 42]
abbrev dktX1_join_6 : List UInt8 := dkwX1_join_6 ++ dktX1_join_7
def dkwX1_join_5 : List UInt8 := [4, 167, 0, 4, 3, 184, 0, 92, 3, 54, 8, 21, 8, 28, 162, 0, 30, 42, 180, 0, 34, 42]
abbrev dktX1_join_5 : List UInt8 := dkwX1_join_5 ++ dktX1_join_6
def dkwX1_join_4 : List UInt8 := [160, 0, 7, 1, 167, 0, 5, 25, 5, 183, 0, 110, 58, 7, 25, 7, 180, 1, 81, 16, 24, 163, 0, 7]
abbrev dktX1_join_4 : List UInt8 := dkwX1_join_4 ++ dktX1_join_5
def dkwX1_join_3 : List UInt8 := [100, 185, 0, 175, 2, 0, 192, 0, 102, 58, 6, 187, 0, 102, 89, 43, 29, 21, 4, 25, 6, 28, 4]
abbrev dktX1_join_3 : List UInt8 := dkwX1_join_3 ++ dktX1_join_4
def dkwX1_join_2 : List UInt8 := [28, 4, 160, 0, 8, 25, 5, 167, 0, 26, 42, 180, 0, 34, 42, 180, 0, 34, 185, 0, 157, 1, 0, 5]
abbrev dktX1_join_2 : List UInt8 := dkwX1_join_2 ++ dktX1_join_3
def dkwX1_join_1 : List UInt8 := [180, 0, 34, 42, 180, 0, 34, 185, 0, 157, 1, 0, 4, 100, 185, 0, 175, 2, 0, 192, 0, 102, 58, 5]
abbrev dktX1_join_1 : List UInt8 := dkwX1_join_1 ++ dktX1_join_2
def dkwX1_join_0 : List UInt8 := [42, 180, 0, 34, 185, 0, 157, 1, 0, 28, 161, 0, 7, 4, 167, 0, 4, 3, 184, 0, 92, 42]
abbrev dktX1_join_0 : List UInt8 := dkwX1_join_0 ++ dktX1_join_1
theorem dksX1_join_0 : cX1_join.data.toList.drop 0 = dktX1_join_0 := by decide +kernel
theorem dksX1_join_1 : cX1_join.data.toList.drop 22 = dktX1_join_1 := dk_seg dksX1_join_0 22 rfl rfl
theorem dksX1_join_2 : cX1_join.data.toList.drop 46 = dktX1_join_2 := dk_seg dksX1_join_1 24 rfl rfl
theorem dksX1_join_3 : cX1_join.data.toList.drop 70 = dktX1_join_3 := dk_seg dksX1_join_2 24 rfl rfl
theorem dksX1_join_4 : cX1_join.data.toList.drop 93 = dktX1_join_4 := dk_seg dksX1_join_3 23 rfl rfl
theorem dksX1_join_5 : cX1_join.data.toList.drop 117 = dktX1_join_5 := dk_seg dksX1_join_4 24 rfl rfl
theorem dksX1_join_6 : cX1_join.data.toList.drop 139 = dktX1_join_6 := dk_seg dksX1_join_5 22 rfl rfl
theorem dksX1_join_7 : cX1_join.data.toList.drop 162 = dktX1_join_7 := dk_seg dksX1_join_6 23 rfl rfl
theorem dX1_join_0 : decode cX1_join 0 = .ok (.aload_n 0, 1) := dk_42 (dk_at dksX1_join_0 0 rfl rfl)
theorem dX1_join_1 : decode cX1_join 1 = .ok (.getfield 34, 3) := dk_180 0 34 (dk_at dksX1_join_0 1 rfl rfl)
theorem dX1_join_4 : decode cX1_join 4 = .ok (.invokeinterface 157 1, 5) := by decide +kernel
theorem dX1_join_9 : decode cX1_join 9 = .ok (.iload_n 2, 1) := dk_28 (dk_at dksX1_join_0 9 rfl rfl)
theorem dX1_join_10 : decode cX1_join 10 = .ok (.if_icmp .lt 7, 3) := dk_161 0 7 (dk_at dksX1_join_0 10 rfl rfl)
theorem dX1_join_13 : decode cX1_join 13 = .ok (.iconst 1, 1) := dk_4 (dk_at dksX1_join_0 13 rfl rfl)
theorem dX1_join_14 : decode cX1_join 14 = .ok (.goto 4, 3) := dk_167 0 4 (dk_at dksX1_join_0 14 rfl rfl)
theorem dX1_join_17 : decode cX1_join 17 = .ok (.iconst 0, 1) := dk_3 (dk_at dksX1_join_0 17 rfl rfl)
theorem dX1_join_18 : decode cX1_join 18 = .ok (.invokestatic 92, 3) := dk_184 0 92 (dk_at dksX1_join_0 18 rfl rfl)
theorem dX1_join_21 : decode cX1_join 21 = .ok (.aload_n 0, 1) := dk_42 (dk_at dksX1_join_0 21 rfl rfl)
theorem dX1_join_22 : decode cX1_join 22 = .ok (.getfield 34, 3) := dk_180 0 34 (dk_at dksX1_join_1 0 rfl rfl)
theorem dX1_join_25 : decode cX1_join 25 = .ok (.aload_n 0, 1) := dk_42 (dk_at dksX1_join_1 3 rfl rfl)
theorem dX1_join_26 : decode cX1_join 26 = .ok (.getfield 34, 3) := dk_180 0 34 (dk_at dksX1_join_1 4 rfl rfl)
theorem dX1_join_29 : decode cX1_join 29 = .ok (.invokeinterface 157 1, 5) := by decide +kernel
theorem dX1_join_34 : decode cX1_join 34 = .ok (.iconst 1, 1) := dk_4 (dk_at dksX1_join_1 12 rfl rfl)
theorem dX1_join_35 : decode cX1_join 35 = .ok (.isub, 1) := dk_100 (dk_at dksX1_join_1 13 rfl rfl)
theorem dX1_join_36 : decode cX1_join 36 = .ok (.invokeinterface 175 2, 5) := by decide +kernel
theorem dX1_join_41 : decode cX1_join 41 = .ok (.checkcast 102, 3) := dk_192 0 102 (dk_at dksX1_join_1 19 rfl rfl)
theorem dX1_join_44 : decode cX1_join 44 = .ok (.astore 5, 2) := dk_58 5 (dk_at dksX1_join_1 22 rfl rfl)
theorem dX1_join_46 : decode cX1_join 46 = .ok (.iload_n 2, 1) := dk_28 (dk_at dksX1_join_2 0 rfl rfl)
theorem dX1_join_47 : decode cX1_join 47 = .ok (.iconst 1, 1) := dk_4 (dk_at dksX1_join_2 1 rfl rfl)
theorem dX1_join_48 : decode cX1_join 48 = .ok (.if_icmp .ne 8, 3) := dk_160 0 8 (dk_at dksX1_join_2 2 rfl rfl)
theorem dX1_join_51 : decode cX1_join 51 = .ok (.aload 5, 2) := dk_25 5 (dk_at dksX1_join_2 5 rfl rfl)
theorem dX1_join_53 : decode cX1_join 53 = .ok (.goto 26, 3) := dk_167 0 26 (dk_at dksX1_join_2 7 rfl rfl)
theorem dX1_join_56 : decode cX1_join 56 = .ok (.aload_n 0, 1) := dk_42 (dk_at dksX1_join_2 10 rfl rfl)
theorem dX1_join_57 : decode cX1_join 57 = .ok (.getfield 34, 3) := dk_180 0 34 (dk_at dksX1_join_2 11 rfl rfl)
theorem dX1_join_60 : decode cX1_join 60 = .ok (.aload_n 0, 1) := dk_42 (dk_at dksX1_join_2 14 rfl rfl)
theorem dX1_join_61 : decode cX1_join 61 = .ok (.getfield 34, 3) := dk_180 0 34 (dk_at dksX1_join_2 15 rfl rfl)
theorem dX1_join_64 : decode cX1_join 64 = .ok (.invokeinterface 157 1, 5) := by decide +kernel
theorem dX1_join_69 : decode cX1_join 69 = .ok (.iconst 2, 1) := dk_5 (dk_at dksX1_join_2 23 rfl rfl)
theorem dX1_join_70 : decode cX1_join 70 = .ok (.isub, 1) := dk_100 (dk_at dksX1_join_3 0 rfl rfl)
theorem dX1_join_71 : decode cX1_join 71 = .ok (.invokeinterface 175 2, 5) := by decide +kernel
theorem dX1_join_76 : decode cX1_join 76 = .ok (.checkcast 102, 3) := dk_192 0 102 (dk_at dksX1_join_3 6 rfl rfl)
theorem dX1_join_79 : decode cX1_join 79 = .ok (.astore 6, 2) := dk_58 6 (dk_at dksX1_join_3 9 rfl rfl)
theorem dX1_join_81 : decode cX1_join 81 = .ok (.new 102, 3) := dk_187 0 102 (dk_at dksX1_join_3 11 rfl rfl)
theorem dX1_join_84 : decode cX1_join 84 = .ok (.dup, 1) := dk_89 (dk_at dksX1_join_3 14 rfl rfl)
theorem dX1_join_85 : decode cX1_join 85 = .ok (.aload_n 1, 1) := dk_43 (dk_at dksX1_join_3 15 rfl rfl)
theorem dX1_join_86 : decode cX1_join 86 = .ok (.iload_n 3, 1) := dk_29 (dk_at dksX1_join_3 16 rfl rfl)
theorem dX1_join_87 : decode cX1_join 87 = .ok (.iload 4, 2) := dk_21 4 (dk_at dksX1_join_3 17 rfl rfl)
theorem dX1_join_89 : decode cX1_join 89 = .ok (.aload 6, 2) := dk_25 6 (dk_at dksX1_join_3 19 rfl rfl)
theorem dX1_join_91 : decode cX1_join 91 = .ok (.iload_n 2, 1) := dk_28 (dk_at dksX1_join_3 21 rfl rfl)
theorem dX1_join_92 : decode cX1_join 92 = .ok (.iconst 1, 1) := dk_4 (dk_at dksX1_join_3 22 rfl rfl)
theorem dX1_join_93 : decode cX1_join 93 = .ok (.if_icmp .ne 7, 3) := dk_160 0 7 (dk_at dksX1_join_4 0 rfl rfl)
theorem dX1_join_96 : decode cX1_join 96 = .ok (.aconst_null, 1) := dk_1 (dk_at dksX1_join_4 3 rfl rfl)
theorem dX1_join_97 : decode cX1_join 97 = .ok (.goto 5, 3) := dk_167 0 5 (dk_at dksX1_join_4 4 rfl rfl)
theorem dX1_join_100 : decode cX1_join 100 = .ok (.aload 5, 2) := dk_25 5 (dk_at dksX1_join_4 7 rfl rfl)
theorem dX1_join_102 : decode cX1_join 102 = .ok (.invokespecial 110, 3) := dk_183 0 110 (dk_at dksX1_join_4 9 rfl rfl)
theorem dX1_join_105 : decode cX1_join 105 = .ok (.astore 7, 2) := dk_58 7 (dk_at dksX1_join_4 12 rfl rfl)
theorem dX1_join_107 : decode cX1_join 107 = .ok (.aload 7, 2) := dk_25 7 (dk_at dksX1_join_4 14 rfl rfl)
theorem dX1_join_109 : decode cX1_join 109 = .ok (.getfield 337, 3) := dk_180 1 81 (dk_at dksX1_join_4 16 rfl rfl)
theorem dX1_join_112 : decode cX1_join 112 = .ok (.bipush 24, 2) := dk_16 24 (dk_at dksX1_join_4 19 rfl rfl)
theorem dX1_join_114 : decode cX1_join 114 = .ok (.if_icmp .gt 7, 3) := dk_163 0 7 (dk_at dksX1_join_4 21 rfl rfl)
theorem dX1_join_117 : decode cX1_join 117 = .ok (.iconst 1, 1) := dk_4 (dk_at dksX1_join_5 0 rfl rfl)
theorem dX1_join_118 : decode cX1_join 118 = .ok (.goto 4, 3) := dk_167 0 4 (dk_at dksX1_join_5 1 rfl rfl)
theorem dX1_join_121 : decode cX1_join 121 = .ok (.iconst 0, 1) := dk_3 (dk_at dksX1_join_5 4 rfl rfl)
theorem dX1_join_122 : decode cX1_join 122 = .ok (.invokestatic 92, 3) := dk_184 0 92 (dk_at dksX1_join_5 5 rfl rfl)
theorem dX1_join_125 : decode cX1_join 125 = .ok (.iconst 0, 1) := dk_3 (dk_at dksX1_join_5 8 rfl rfl)
theorem dX1_join_126 : decode cX1_join 126 = .ok (.istore 8, 2) := dk_54 8 (dk_at dksX1_join_5 9 rfl rfl)
theorem dX1_join_128 : decode cX1_join 128 = .ok (.iload 8, 2) := dk_21 8 (dk_at dksX1_join_5 11 rfl rfl)
theorem dX1_join_130 : decode cX1_join 130 = .ok (.iload_n 2, 1) := dk_28 (dk_at dksX1_join_5 13 rfl rfl)
theorem dX1_join_131 : decode cX1_join 131 = .ok (.if_icmp .ge 30, 3) := dk_162 0 30 (dk_at dksX1_join_5 14 rfl rfl)
theorem dX1_join_134 : decode cX1_join 134 = .ok (.aload_n 0, 1) := dk_42 (dk_at dksX1_join_5 17 rfl rfl)
theorem dX1_join_135 : decode cX1_join 135 = .ok (.getfield 34, 3) := dk_180 0 34 (dk_at dksX1_join_5 18 rfl rfl)
theorem dX1_join_138 : decode cX1_join 138 = .ok (.aload_n 0, 1) := dk_42 (dk_at dksX1_join_5 21 rfl rfl)
theorem dX1_join_139 : decode cX1_join 139 = .ok (.getfield 34, 3) := dk_180 0 34 (dk_at dksX1_join_6 0 rfl rfl)
theorem dX1_join_142 : decode cX1_join 142 = .ok (.invokeinterface 157 1, 5) := by decide +kernel
theorem dX1_join_147 : decode cX1_join 147 = .ok (.iconst 1, 1) := dk_4 (dk_at dksX1_join_6 8 rfl rfl)
theorem dX1_join_148 : decode cX1_join 148 = .ok (.isub, 1) := dk_100 (dk_at dksX1_join_6 9 rfl rfl)
theorem dX1_join_149 : decode cX1_join 149 = .ok (.invokeinterface 165 2, 5) := by decide +kernel
theorem dX1_join_154 : decode cX1_join 154 = .ok (.pop, 1) := dk_87 (dk_at dksX1_join_6 15 rfl rfl)
theorem dX1_join_155 : decode cX1_join 155 = .ok (.iinc 8 1, 3) := dk_132 8 1 (dk_at dksX1_join_6 16 rfl rfl)
theorem dX1_join_158 : decode cX1_join 158 = .ok (.goto (-30), 3) := dk_167 255 226 (dk_at dksX1_join_6 19 rfl rfl)
theorem dX1_join_161 : decode cX1_join 161 = .ok (.aload_n 0, 1) := dk_42 (dk_at dksX1_join_6 22 rfl rfl)
theorem dX1_join_162 : decode cX1_join 162 = .ok (.getfield 34, 3) := dk_180 0 34 (dk_at dksX1_join_7 0 rfl rfl)
theorem dX1_join_165 : decode cX1_join 165 = .ok (.aload 7, 2) := dk_25 7 (dk_at dksX1_join_7 3 rfl rfl)
theorem dX1_join_167 : decode cX1_join 167 = .ok (.invokeinterface 51 2, 5) := by decide +kernel
theorem dX1_join_172 : decode cX1_join 172 = .ok (.pop, 1) := dk_87 (dk_at dksX1_join_7 10 rfl rfl)
theorem dX1_join_173 : decode cX1_join 173 = .ok (.aload_n 0, 1) := dk_42 (dk_at dksX1_join_7 11 rfl rfl)
theorem dX1_join_174 : decode cX1_join 174 = .ok (.getfield 34, 3) := dk_180 0 34 (dk_at dksX1_join_7 12 rfl rfl)
theorem dX1_join_177 : decode cX1_join 177 = .ok (.invokeinterface 157 1, 5) := by decide +kernel
theorem dX1_join_182 : decode cX1_join 182 = .ok (.ireturn, 1) := dk_172 (dk_at dksX1_join_7 20 rfl rfl)
abbrev cX1_both : ByteArray := prog_1_method_13_code
def yX1_both : MethodName := ⟨RX1, "both", "()I"⟩
def dkwX1_both_0 : List UInt8 := [42, 178, 0, 127, 5, 3, 3, 182, 0, 123, 172]
abbrev dktX1_both_0 : List UInt8 := dkwX1_both_0 ++ []
theorem dksX1_both_0 : cX1_both.data.toList.drop 0 = dktX1_both_0 := by decide +kernel
theorem dX1_both_0 : decode cX1_both 0 = .ok (.aload_n 0, 1) := dk_42 (dk_at dksX1_both_0 0 rfl rfl)
theorem dX1_both_1 : decode cX1_both 1 = .ok (.getstatic 127, 3) := dk_178 0 127 (dk_at dksX1_both_0 1 rfl rfl)
theorem dX1_both_4 : decode cX1_both 4 = .ok (.iconst 2, 1) := dk_5 (dk_at dksX1_both_0 4 rfl rfl)
theorem dX1_both_5 : decode cX1_both 5 = .ok (.iconst 0, 1) := dk_3 (dk_at dksX1_both_0 5 rfl rfl)
theorem dX1_both_6 : decode cX1_both 6 = .ok (.iconst 0, 1) := dk_3 (dk_at dksX1_both_0 6 rfl rfl)
theorem dX1_both_7 : decode cX1_both 7 = .ok (.invokevirtual 123, 3) := dk_182 0 123 (dk_at dksX1_both_0 7 rfl rfl)
theorem dX1_both_10 : decode cX1_both 10 = .ok (.ireturn, 1) := dk_172 (dk_at dksX1_both_0 10 rfl rfl)
abbrev cX1_either : ByteArray := prog_1_method_14_code
def yX1_either : MethodName := ⟨RX1, "either", "()I"⟩
def dkwX1_either_0 : List UInt8 := [42, 178, 0, 130, 5, 3, 3, 182, 0, 123, 172]
abbrev dktX1_either_0 : List UInt8 := dkwX1_either_0 ++ []
theorem dksX1_either_0 : cX1_either.data.toList.drop 0 = dktX1_either_0 := by decide +kernel
theorem dX1_either_0 : decode cX1_either 0 = .ok (.aload_n 0, 1) := dk_42 (dk_at dksX1_either_0 0 rfl rfl)
theorem dX1_either_1 : decode cX1_either 1 = .ok (.getstatic 130, 3) := dk_178 0 130 (dk_at dksX1_either_0 1 rfl rfl)
theorem dX1_either_4 : decode cX1_either 4 = .ok (.iconst 2, 1) := dk_5 (dk_at dksX1_either_0 4 rfl rfl)
theorem dX1_either_5 : decode cX1_either 5 = .ok (.iconst 0, 1) := dk_3 (dk_at dksX1_either_0 5 rfl rfl)
theorem dX1_either_6 : decode cX1_either 6 = .ok (.iconst 0, 1) := dk_3 (dk_at dksX1_either_0 6 rfl rfl)
theorem dX1_either_7 : decode cX1_either 7 = .ok (.invokevirtual 123, 3) := dk_182 0 123 (dk_at dksX1_either_0 7 rfl rfl)
theorem dX1_either_10 : decode cX1_either 10 = .ok (.ireturn, 1) := dk_172 (dk_at dksX1_either_0 10 rfl rfl)
abbrev cX1_before : ByteArray := prog_1_method_15_code
def yX1_before : MethodName := ⟨RX1, "before", "()I"⟩
def dkwX1_before_0 : List UInt8 := [42, 178, 0, 133, 4, 3, 3, 182, 0, 123, 172]
abbrev dktX1_before_0 : List UInt8 := dkwX1_before_0 ++ []
theorem dksX1_before_0 : cX1_before.data.toList.drop 0 = dktX1_before_0 := by decide +kernel
theorem dX1_before_0 : decode cX1_before 0 = .ok (.aload_n 0, 1) := dk_42 (dk_at dksX1_before_0 0 rfl rfl)
theorem dX1_before_1 : decode cX1_before 1 = .ok (.getstatic 133, 3) := dk_178 0 133 (dk_at dksX1_before_0 1 rfl rfl)
theorem dX1_before_4 : decode cX1_before 4 = .ok (.iconst 1, 1) := dk_4 (dk_at dksX1_before_0 4 rfl rfl)
theorem dX1_before_5 : decode cX1_before 5 = .ok (.iconst 0, 1) := dk_3 (dk_at dksX1_before_0 5 rfl rfl)
theorem dX1_before_6 : decode cX1_before 6 = .ok (.iconst 0, 1) := dk_3 (dk_at dksX1_before_0 6 rfl rfl)
theorem dX1_before_7 : decode cX1_before 7 = .ok (.invokevirtual 123, 3) := dk_182 0 123 (dk_at dksX1_before_0 7 rfl rfl)
theorem dX1_before_10 : decode cX1_before 10 = .ok (.ireturn, 1) := dk_172 (dk_at dksX1_before_0 10 rfl rfl)
abbrev cX1_since : ByteArray := prog_1_method_16_code
def yX1_since : MethodName := ⟨RX1, "since", "(I)I"⟩
def dkwX1_since_0 : List UInt8 := [27, 184, 0, 136, 184, 0, 69, 42, 178, 0, 139, 5, 3, 27, 182, 0, 123, 172]
abbrev dktX1_since_0 : List UInt8 := dkwX1_since_0 ++ []
theorem dksX1_since_0 : cX1_since.data.toList.drop 0 = dktX1_since_0 := by decide +kernel
theorem dX1_since_0 : decode cX1_since 0 = .ok (.iload_n 1, 1) := dk_27 (dk_at dksX1_since_0 0 rfl rfl)
theorem dX1_since_1 : decode cX1_since 1 = .ok (.invokestatic 136, 3) := dk_184 0 136 (dk_at dksX1_since_0 1 rfl rfl)
theorem dX1_since_4 : decode cX1_since 4 = .ok (.invokestatic 69, 3) := dk_184 0 69 (dk_at dksX1_since_0 4 rfl rfl)
theorem dX1_since_7 : decode cX1_since 7 = .ok (.aload_n 0, 1) := dk_42 (dk_at dksX1_since_0 7 rfl rfl)
theorem dX1_since_8 : decode cX1_since 8 = .ok (.getstatic 139, 3) := dk_178 0 139 (dk_at dksX1_since_0 8 rfl rfl)
theorem dX1_since_11 : decode cX1_since 11 = .ok (.iconst 2, 1) := dk_5 (dk_at dksX1_since_0 11 rfl rfl)
theorem dX1_since_12 : decode cX1_since 12 = .ok (.iconst 0, 1) := dk_3 (dk_at dksX1_since_0 12 rfl rfl)
theorem dX1_since_13 : decode cX1_since 13 = .ok (.iload_n 1, 1) := dk_27 (dk_at dksX1_since_0 13 rfl rfl)
theorem dX1_since_14 : decode cX1_since 14 = .ok (.invokevirtual 123, 3) := dk_182 0 123 (dk_at dksX1_since_0 14 rfl rfl)
theorem dX1_since_17 : decode cX1_since 17 = .ok (.ireturn, 1) := dk_172 (dk_at dksX1_since_0 17 rfl rfl)
abbrev cX1_isBound : ByteArray := prog_1_method_52_code
def yX1_isBound : MethodName := ⟨RX1, "isBound", "(I)Z"⟩
def dkwX1_isBound_0 : List UInt8 := [26, 2, 17, 3, 232, 184, 0, 65, 172]
abbrev dktX1_isBound_0 : List UInt8 := dkwX1_isBound_0 ++ []
theorem dksX1_isBound_0 : cX1_isBound.data.toList.drop 0 = dktX1_isBound_0 := by decide +kernel
theorem dX1_isBound_0 : decode cX1_isBound 0 = .ok (.iload_n 0, 1) := dk_26 (dk_at dksX1_isBound_0 0 rfl rfl)
theorem dX1_isBound_1 : decode cX1_isBound 1 = .ok (.iconst (-1), 1) := dk_2 (dk_at dksX1_isBound_0 1 rfl rfl)
theorem dX1_isBound_2 : decode cX1_isBound 2 = .ok (.sipush 1000, 3) := dk_17 3 232 (dk_at dksX1_isBound_0 2 rfl rfl)
theorem dX1_isBound_5 : decode cX1_isBound 5 = .ok (.invokestatic 65, 3) := dk_184 0 65 (dk_at dksX1_isBound_0 5 rfl rfl)
theorem dX1_isBound_8 : decode cX1_isBound 8 = .ok (.ireturn, 1) := dk_172 (dk_at dksX1_isBound_0 8 rfl rfl)
abbrev cX1_once : ByteArray := prog_1_method_17_code
def yX1_once : MethodName := ⟨RX1, "once", "(I)I"⟩
def dkwX1_once_0 : List UInt8 := [27, 184, 0, 136, 184, 0, 69, 42, 178, 0, 142, 4, 3, 27, 182, 0, 123, 172]
abbrev dktX1_once_0 : List UInt8 := dkwX1_once_0 ++ []
theorem dksX1_once_0 : cX1_once.data.toList.drop 0 = dktX1_once_0 := by decide +kernel
theorem dX1_once_0 : decode cX1_once 0 = .ok (.iload_n 1, 1) := dk_27 (dk_at dksX1_once_0 0 rfl rfl)
theorem dX1_once_1 : decode cX1_once 1 = .ok (.invokestatic 136, 3) := dk_184 0 136 (dk_at dksX1_once_0 1 rfl rfl)
theorem dX1_once_4 : decode cX1_once 4 = .ok (.invokestatic 69, 3) := dk_184 0 69 (dk_at dksX1_once_0 4 rfl rfl)
theorem dX1_once_7 : decode cX1_once 7 = .ok (.aload_n 0, 1) := dk_42 (dk_at dksX1_once_0 7 rfl rfl)
theorem dX1_once_8 : decode cX1_once 8 = .ok (.getstatic 142, 3) := dk_178 0 142 (dk_at dksX1_once_0 8 rfl rfl)
theorem dX1_once_11 : decode cX1_once 11 = .ok (.iconst 1, 1) := dk_4 (dk_at dksX1_once_0 11 rfl rfl)
theorem dX1_once_12 : decode cX1_once 12 = .ok (.iconst 0, 1) := dk_3 (dk_at dksX1_once_0 12 rfl rfl)
theorem dX1_once_13 : decode cX1_once 13 = .ok (.iload_n 1, 1) := dk_27 (dk_at dksX1_once_0 13 rfl rfl)
theorem dX1_once_14 : decode cX1_once 14 = .ok (.invokevirtual 123, 3) := dk_182 0 123 (dk_at dksX1_once_0 14 rfl rfl)
theorem dX1_once_17 : decode cX1_once 17 = .ok (.ireturn, 1) := dk_172 (dk_at dksX1_once_0 17 rfl rfl)
abbrev cX1_next : ByteArray := prog_1_method_18_code
def yX1_next : MethodName := ⟨RX1, "next", "()I"⟩
def dkwX1_next_0 : List UInt8 := [42, 178, 0, 145, 4, 3, 3, 182, 0, 123, 172]
abbrev dktX1_next_0 : List UInt8 := dkwX1_next_0 ++ []
theorem dksX1_next_0 : cX1_next.data.toList.drop 0 = dktX1_next_0 := by decide +kernel
theorem dX1_next_0 : decode cX1_next 0 = .ok (.aload_n 0, 1) := dk_42 (dk_at dksX1_next_0 0 rfl rfl)
theorem dX1_next_1 : decode cX1_next 1 = .ok (.getstatic 145, 3) := dk_178 0 145 (dk_at dksX1_next_0 1 rfl rfl)
theorem dX1_next_4 : decode cX1_next 4 = .ok (.iconst 1, 1) := dk_4 (dk_at dksX1_next_0 4 rfl rfl)
theorem dX1_next_5 : decode cX1_next 5 = .ok (.iconst 0, 1) := dk_3 (dk_at dksX1_next_0 5 rfl rfl)
theorem dX1_next_6 : decode cX1_next 6 = .ok (.iconst 0, 1) := dk_3 (dk_at dksX1_next_0 6 rfl rfl)
theorem dX1_next_7 : decode cX1_next 7 = .ok (.invokevirtual 123, 3) := dk_182 0 123 (dk_at dksX1_next_0 7 rfl rfl)
theorem dX1_next_10 : decode cX1_next 10 = .ok (.ireturn, 1) := dk_172 (dk_at dksX1_next_0 10 rfl rfl)
abbrev cX1_until : ByteArray := prog_1_method_19_code
def yX1_until : MethodName := ⟨RX1, "until", "(I)I"⟩
def dkwX1_until_0 : List UInt8 := [27, 184, 0, 136, 184, 0, 69, 42, 178, 0, 148, 5, 3, 27, 182, 0, 123, 172]
abbrev dktX1_until_0 : List UInt8 := dkwX1_until_0 ++ []
theorem dksX1_until_0 : cX1_until.data.toList.drop 0 = dktX1_until_0 := by decide +kernel
theorem dX1_until_0 : decode cX1_until 0 = .ok (.iload_n 1, 1) := dk_27 (dk_at dksX1_until_0 0 rfl rfl)
theorem dX1_until_1 : decode cX1_until 1 = .ok (.invokestatic 136, 3) := dk_184 0 136 (dk_at dksX1_until_0 1 rfl rfl)
theorem dX1_until_4 : decode cX1_until 4 = .ok (.invokestatic 69, 3) := dk_184 0 69 (dk_at dksX1_until_0 4 rfl rfl)
theorem dX1_until_7 : decode cX1_until 7 = .ok (.aload_n 0, 1) := dk_42 (dk_at dksX1_until_0 7 rfl rfl)
theorem dX1_until_8 : decode cX1_until 8 = .ok (.getstatic 148, 3) := dk_178 0 148 (dk_at dksX1_until_0 8 rfl rfl)
theorem dX1_until_11 : decode cX1_until 11 = .ok (.iconst 2, 1) := dk_5 (dk_at dksX1_until_0 11 rfl rfl)
theorem dX1_until_12 : decode cX1_until 12 = .ok (.iconst 0, 1) := dk_3 (dk_at dksX1_until_0 12 rfl rfl)
theorem dX1_until_13 : decode cX1_until 13 = .ok (.iload_n 1, 1) := dk_27 (dk_at dksX1_until_0 13 rfl rfl)
theorem dX1_until_14 : decode cX1_until 14 = .ok (.invokevirtual 123, 3) := dk_182 0 123 (dk_at dksX1_until_0 14 rfl rfl)
theorem dX1_until_17 : decode cX1_until 17 = .ok (.ireturn, 1) := dk_172 (dk_at dksX1_until_0 17 rfl rfl)
abbrev cX1_soon : ByteArray := prog_1_method_20_code
def yX1_soon : MethodName := ⟨RX1, "soon", "(I)I"⟩
def dkwX1_soon_0 : List UInt8 := [27, 184, 0, 136, 184, 0, 69, 42, 178, 0, 151, 4, 3, 27, 182, 0, 123, 172]
abbrev dktX1_soon_0 : List UInt8 := dkwX1_soon_0 ++ []
theorem dksX1_soon_0 : cX1_soon.data.toList.drop 0 = dktX1_soon_0 := by decide +kernel
theorem dX1_soon_0 : decode cX1_soon 0 = .ok (.iload_n 1, 1) := dk_27 (dk_at dksX1_soon_0 0 rfl rfl)
theorem dX1_soon_1 : decode cX1_soon 1 = .ok (.invokestatic 136, 3) := dk_184 0 136 (dk_at dksX1_soon_0 1 rfl rfl)
theorem dX1_soon_4 : decode cX1_soon 4 = .ok (.invokestatic 69, 3) := dk_184 0 69 (dk_at dksX1_soon_0 4 rfl rfl)
theorem dX1_soon_7 : decode cX1_soon 7 = .ok (.aload_n 0, 1) := dk_42 (dk_at dksX1_soon_0 7 rfl rfl)
theorem dX1_soon_8 : decode cX1_soon 8 = .ok (.getstatic 151, 3) := dk_178 0 151 (dk_at dksX1_soon_0 8 rfl rfl)
theorem dX1_soon_11 : decode cX1_soon 11 = .ok (.iconst 1, 1) := dk_4 (dk_at dksX1_soon_0 11 rfl rfl)
theorem dX1_soon_12 : decode cX1_soon 12 = .ok (.iconst 0, 1) := dk_3 (dk_at dksX1_soon_0 12 rfl rfl)
theorem dX1_soon_13 : decode cX1_soon 13 = .ok (.iload_n 1, 1) := dk_27 (dk_at dksX1_soon_0 13 rfl rfl)
theorem dX1_soon_14 : decode cX1_soon 14 = .ok (.invokevirtual 123, 3) := dk_182 0 123 (dk_at dksX1_soon_0 14 rfl rfl)
theorem dX1_soon_17 : decode cX1_soon 17 = .ok (.ireturn, 1) := dk_172 (dk_at dksX1_soon_0 17 rfl rfl)
abbrev cX1_many : ByteArray := prog_1_method_21_code
def yX1_many : MethodName := ⟨RX1, "many", "(II)I"⟩
def dkwX1_many_1 : List UInt8 := [184, 0, 69, 42, 178, 0, 154, 4, 27, 28, 182, 0, 123, 172]
abbrev dktX1_many_1 : List UInt8 := dkwX1_many_1 ++ []
def dkwX1_many_0 : List UInt8 := [27, 4, 16, 80, 184, 0, 65, 153, 0, 14, 28, 184, 0, 136, 153, 0, 7, 4, 167, 0, 4, 3]
abbrev dktX1_many_0 : List UInt8 := dkwX1_many_0 ++ dktX1_many_1
theorem dksX1_many_0 : cX1_many.data.toList.drop 0 = dktX1_many_0 := by decide +kernel
theorem dksX1_many_1 : cX1_many.data.toList.drop 22 = dktX1_many_1 := dk_seg dksX1_many_0 22 rfl rfl
theorem dX1_many_0 : decode cX1_many 0 = .ok (.iload_n 1, 1) := dk_27 (dk_at dksX1_many_0 0 rfl rfl)
theorem dX1_many_1 : decode cX1_many 1 = .ok (.iconst 1, 1) := dk_4 (dk_at dksX1_many_0 1 rfl rfl)
theorem dX1_many_2 : decode cX1_many 2 = .ok (.bipush 80, 2) := dk_16 80 (dk_at dksX1_many_0 2 rfl rfl)
theorem dX1_many_4 : decode cX1_many 4 = .ok (.invokestatic 65, 3) := dk_184 0 65 (dk_at dksX1_many_0 4 rfl rfl)
theorem dX1_many_7 : decode cX1_many 7 = .ok (.ifCond .eq 14, 3) := dk_153 0 14 (dk_at dksX1_many_0 7 rfl rfl)
theorem dX1_many_10 : decode cX1_many 10 = .ok (.iload_n 2, 1) := dk_28 (dk_at dksX1_many_0 10 rfl rfl)
theorem dX1_many_11 : decode cX1_many 11 = .ok (.invokestatic 136, 3) := dk_184 0 136 (dk_at dksX1_many_0 11 rfl rfl)
theorem dX1_many_14 : decode cX1_many 14 = .ok (.ifCond .eq 7, 3) := dk_153 0 7 (dk_at dksX1_many_0 14 rfl rfl)
theorem dX1_many_17 : decode cX1_many 17 = .ok (.iconst 1, 1) := dk_4 (dk_at dksX1_many_0 17 rfl rfl)
theorem dX1_many_18 : decode cX1_many 18 = .ok (.goto 4, 3) := dk_167 0 4 (dk_at dksX1_many_0 18 rfl rfl)
theorem dX1_many_21 : decode cX1_many 21 = .ok (.iconst 0, 1) := dk_3 (dk_at dksX1_many_0 21 rfl rfl)
theorem dX1_many_22 : decode cX1_many 22 = .ok (.invokestatic 69, 3) := dk_184 0 69 (dk_at dksX1_many_1 0 rfl rfl)
theorem dX1_many_25 : decode cX1_many 25 = .ok (.aload_n 0, 1) := dk_42 (dk_at dksX1_many_1 3 rfl rfl)
theorem dX1_many_26 : decode cX1_many 26 = .ok (.getstatic 154, 3) := dk_178 0 154 (dk_at dksX1_many_1 4 rfl rfl)
theorem dX1_many_29 : decode cX1_many 29 = .ok (.iconst 1, 1) := dk_4 (dk_at dksX1_many_1 7 rfl rfl)
theorem dX1_many_30 : decode cX1_many 30 = .ok (.iload_n 1, 1) := dk_27 (dk_at dksX1_many_1 8 rfl rfl)
theorem dX1_many_31 : decode cX1_many 31 = .ok (.iload_n 2, 1) := dk_28 (dk_at dksX1_many_1 9 rfl rfl)
theorem dX1_many_32 : decode cX1_many 32 = .ok (.invokevirtual 123, 3) := dk_182 0 123 (dk_at dksX1_many_1 10 rfl rfl)
theorem dX1_many_35 : decode cX1_many 35 = .ok (.ireturn, 1) := dk_172 (dk_at dksX1_many_1 13 rfl rfl)
abbrev cX1_watch : ByteArray := prog_1_method_23_code
def yX1_watch : MethodName := ⟨RX1, "watch", "(ZZ)I"⟩
def dkwX1_watch_3 : List UInt8 := [42, 180, 0, 37, 185, 0, 157, 1, 0, 4, 100, 172]
abbrev dktX1_watch_3 : List UInt8 := dkwX1_watch_3 ++ []
def dkwX1_watch_2 : List UInt8 := [3, 185, 0, 165, 2, 0, 192, 0, 102, 27, 28, 183, 0, 169, 185, 0, 51, 2, 0, 87, 42, 182, 0, 99]
abbrev dktX1_watch_2 : List UInt8 := dkwX1_watch_2 ++ dktX1_watch_3
def dkwX1_watch_1 : List UInt8 := [162, 0, 7, 4, 167, 0, 4, 3, 184, 0, 92, 42, 180, 0, 37, 187, 0, 163, 89, 42, 42, 180, 0, 34]
abbrev dktX1_watch_1 : List UInt8 := dkwX1_watch_1 ++ dktX1_watch_2
def dkwX1_watch_0 : List UInt8 := [42, 180, 0, 34, 185, 0, 157, 1, 0, 4, 160, 0, 21, 42, 180, 0, 37, 185, 0, 157, 1, 0, 16, 6]
abbrev dktX1_watch_0 : List UInt8 := dkwX1_watch_0 ++ dktX1_watch_1
theorem dksX1_watch_0 : cX1_watch.data.toList.drop 0 = dktX1_watch_0 := by decide +kernel
theorem dksX1_watch_1 : cX1_watch.data.toList.drop 24 = dktX1_watch_1 := dk_seg dksX1_watch_0 24 rfl rfl
theorem dksX1_watch_2 : cX1_watch.data.toList.drop 48 = dktX1_watch_2 := dk_seg dksX1_watch_1 24 rfl rfl
theorem dksX1_watch_3 : cX1_watch.data.toList.drop 72 = dktX1_watch_3 := dk_seg dksX1_watch_2 24 rfl rfl
theorem dX1_watch_0 : decode cX1_watch 0 = .ok (.aload_n 0, 1) := dk_42 (dk_at dksX1_watch_0 0 rfl rfl)
theorem dX1_watch_1 : decode cX1_watch 1 = .ok (.getfield 34, 3) := dk_180 0 34 (dk_at dksX1_watch_0 1 rfl rfl)
theorem dX1_watch_4 : decode cX1_watch 4 = .ok (.invokeinterface 157 1, 5) := by decide +kernel
theorem dX1_watch_9 : decode cX1_watch 9 = .ok (.iconst 1, 1) := dk_4 (dk_at dksX1_watch_0 9 rfl rfl)
theorem dX1_watch_10 : decode cX1_watch 10 = .ok (.if_icmp .ne 21, 3) := dk_160 0 21 (dk_at dksX1_watch_0 10 rfl rfl)
theorem dX1_watch_13 : decode cX1_watch 13 = .ok (.aload_n 0, 1) := dk_42 (dk_at dksX1_watch_0 13 rfl rfl)
theorem dX1_watch_14 : decode cX1_watch 14 = .ok (.getfield 37, 3) := dk_180 0 37 (dk_at dksX1_watch_0 14 rfl rfl)
theorem dX1_watch_17 : decode cX1_watch 17 = .ok (.invokeinterface 157 1, 5) := by decide +kernel
theorem dX1_watch_22 : decode cX1_watch 22 = .ok (.bipush 6, 2) := dk_16 6 (dk_at dksX1_watch_0 22 rfl rfl)
theorem dX1_watch_24 : decode cX1_watch 24 = .ok (.if_icmp .ge 7, 3) := dk_162 0 7 (dk_at dksX1_watch_1 0 rfl rfl)
theorem dX1_watch_27 : decode cX1_watch 27 = .ok (.iconst 1, 1) := dk_4 (dk_at dksX1_watch_1 3 rfl rfl)
theorem dX1_watch_28 : decode cX1_watch 28 = .ok (.goto 4, 3) := dk_167 0 4 (dk_at dksX1_watch_1 4 rfl rfl)
theorem dX1_watch_31 : decode cX1_watch 31 = .ok (.iconst 0, 1) := dk_3 (dk_at dksX1_watch_1 7 rfl rfl)
theorem dX1_watch_32 : decode cX1_watch 32 = .ok (.invokestatic 92, 3) := dk_184 0 92 (dk_at dksX1_watch_1 8 rfl rfl)
theorem dX1_watch_35 : decode cX1_watch 35 = .ok (.aload_n 0, 1) := dk_42 (dk_at dksX1_watch_1 11 rfl rfl)
theorem dX1_watch_36 : decode cX1_watch 36 = .ok (.getfield 37, 3) := dk_180 0 37 (dk_at dksX1_watch_1 12 rfl rfl)
theorem dX1_watch_39 : decode cX1_watch 39 = .ok (.new 163, 3) := dk_187 0 163 (dk_at dksX1_watch_1 15 rfl rfl)
theorem dX1_watch_42 : decode cX1_watch 42 = .ok (.dup, 1) := dk_89 (dk_at dksX1_watch_1 18 rfl rfl)
theorem dX1_watch_43 : decode cX1_watch 43 = .ok (.aload_n 0, 1) := dk_42 (dk_at dksX1_watch_1 19 rfl rfl)
theorem dX1_watch_44 : decode cX1_watch 44 = .ok (.aload_n 0, 1) := dk_42 (dk_at dksX1_watch_1 20 rfl rfl)
theorem dX1_watch_45 : decode cX1_watch 45 = .ok (.getfield 34, 3) := dk_180 0 34 (dk_at dksX1_watch_1 21 rfl rfl)
theorem dX1_watch_48 : decode cX1_watch 48 = .ok (.iconst 0, 1) := dk_3 (dk_at dksX1_watch_2 0 rfl rfl)
theorem dX1_watch_49 : decode cX1_watch 49 = .ok (.invokeinterface 165 2, 5) := by decide +kernel
theorem dX1_watch_54 : decode cX1_watch 54 = .ok (.checkcast 102, 3) := dk_192 0 102 (dk_at dksX1_watch_2 6 rfl rfl)
theorem dX1_watch_57 : decode cX1_watch 57 = .ok (.iload_n 1, 1) := dk_27 (dk_at dksX1_watch_2 9 rfl rfl)
theorem dX1_watch_58 : decode cX1_watch 58 = .ok (.iload_n 2, 1) := dk_28 (dk_at dksX1_watch_2 10 rfl rfl)
theorem dX1_watch_59 : decode cX1_watch 59 = .ok (.invokespecial 169, 3) := dk_183 0 169 (dk_at dksX1_watch_2 11 rfl rfl)
theorem dX1_watch_62 : decode cX1_watch 62 = .ok (.invokeinterface 51 2, 5) := by decide +kernel
theorem dX1_watch_67 : decode cX1_watch 67 = .ok (.pop, 1) := dk_87 (dk_at dksX1_watch_2 19 rfl rfl)
theorem dX1_watch_68 : decode cX1_watch 68 = .ok (.aload_n 0, 1) := dk_42 (dk_at dksX1_watch_2 20 rfl rfl)
theorem dX1_watch_69 : decode cX1_watch 69 = .ok (.invokevirtual 99, 3) := dk_182 0 99 (dk_at dksX1_watch_2 21 rfl rfl)
theorem dX1_watch_72 : decode cX1_watch 72 = .ok (.aload_n 0, 1) := dk_42 (dk_at dksX1_watch_3 0 rfl rfl)
theorem dX1_watch_73 : decode cX1_watch 73 = .ok (.getfield 37, 3) := dk_180 0 37 (dk_at dksX1_watch_3 1 rfl rfl)
theorem dX1_watch_76 : decode cX1_watch 76 = .ok (.invokeinterface 157 1, 5) := by decide +kernel
theorem dX1_watch_81 : decode cX1_watch 81 = .ok (.iconst 1, 1) := dk_4 (dk_at dksX1_watch_3 9 rfl rfl)
theorem dX1_watch_82 : decode cX1_watch 82 = .ok (.isub, 1) := dk_100 (dk_at dksX1_watch_3 10 rfl rfl)
theorem dX1_watch_83 : decode cX1_watch 83 = .ok (.ireturn, 1) := dk_172 (dk_at dksX1_watch_3 11 rfl rfl)
abbrev cX1_eventAt : ByteArray := prog_1_method_27_code
def yX1_eventAt : MethodName := ⟨RX1, "eventAt", "(I)I"⟩
def dkwX1_eventAt_1 : List UInt8 := [185, 0, 175, 2, 0, 192, 0, 81, 180, 0, 80, 172]
abbrev dktX1_eventAt_1 : List UInt8 := dkwX1_eventAt_1 ++ []
def dkwX1_eventAt_0 : List UInt8 := [27, 3, 42, 180, 0, 24, 185, 0, 157, 1, 0, 4, 100, 184, 0, 65, 184, 0, 61, 42, 180, 0, 24, 27]
abbrev dktX1_eventAt_0 : List UInt8 := dkwX1_eventAt_0 ++ dktX1_eventAt_1
theorem dksX1_eventAt_0 : cX1_eventAt.data.toList.drop 0 = dktX1_eventAt_0 := by decide +kernel
theorem dksX1_eventAt_1 : cX1_eventAt.data.toList.drop 24 = dktX1_eventAt_1 := dk_seg dksX1_eventAt_0 24 rfl rfl
theorem dX1_eventAt_0 : decode cX1_eventAt 0 = .ok (.iload_n 1, 1) := dk_27 (dk_at dksX1_eventAt_0 0 rfl rfl)
theorem dX1_eventAt_1 : decode cX1_eventAt 1 = .ok (.iconst 0, 1) := dk_3 (dk_at dksX1_eventAt_0 1 rfl rfl)
theorem dX1_eventAt_2 : decode cX1_eventAt 2 = .ok (.aload_n 0, 1) := dk_42 (dk_at dksX1_eventAt_0 2 rfl rfl)
theorem dX1_eventAt_3 : decode cX1_eventAt 3 = .ok (.getfield 24, 3) := dk_180 0 24 (dk_at dksX1_eventAt_0 3 rfl rfl)
theorem dX1_eventAt_6 : decode cX1_eventAt 6 = .ok (.invokeinterface 157 1, 5) := by decide +kernel
theorem dX1_eventAt_11 : decode cX1_eventAt 11 = .ok (.iconst 1, 1) := dk_4 (dk_at dksX1_eventAt_0 11 rfl rfl)
theorem dX1_eventAt_12 : decode cX1_eventAt 12 = .ok (.isub, 1) := dk_100 (dk_at dksX1_eventAt_0 12 rfl rfl)
theorem dX1_eventAt_13 : decode cX1_eventAt 13 = .ok (.invokestatic 65, 3) := dk_184 0 65 (dk_at dksX1_eventAt_0 13 rfl rfl)
theorem dX1_eventAt_16 : decode cX1_eventAt 16 = .ok (.invokestatic 61, 3) := dk_184 0 61 (dk_at dksX1_eventAt_0 16 rfl rfl)
theorem dX1_eventAt_19 : decode cX1_eventAt 19 = .ok (.aload_n 0, 1) := dk_42 (dk_at dksX1_eventAt_0 19 rfl rfl)
theorem dX1_eventAt_20 : decode cX1_eventAt 20 = .ok (.getfield 24, 3) := dk_180 0 24 (dk_at dksX1_eventAt_0 20 rfl rfl)
theorem dX1_eventAt_23 : decode cX1_eventAt 23 = .ok (.iload_n 1, 1) := dk_27 (dk_at dksX1_eventAt_0 23 rfl rfl)
theorem dX1_eventAt_24 : decode cX1_eventAt 24 = .ok (.invokeinterface 175 2, 5) := by decide +kernel
theorem dX1_eventAt_29 : decode cX1_eventAt 29 = .ok (.checkcast 81, 3) := dk_192 0 81 (dk_at dksX1_eventAt_1 5 rfl rfl)
theorem dX1_eventAt_32 : decode cX1_eventAt 32 = .ok (.getfield 80, 3) := dk_180 0 80 (dk_at dksX1_eventAt_1 8 rfl rfl)
theorem dX1_eventAt_35 : decode cX1_eventAt 35 = .ok (.ireturn, 1) := dk_172 (dk_at dksX1_eventAt_1 11 rfl rfl)
abbrev cX1_timeOf : ByteArray := prog_1_method_28_code
def yX1_timeOf : MethodName := ⟨RX1, "timeOf", "(I)I"⟩
def dkwX1_timeOf_0 : List UInt8 := [42, 27, 182, 0, 178, 180, 0, 182, 172]
abbrev dktX1_timeOf_0 : List UInt8 := dkwX1_timeOf_0 ++ []
theorem dksX1_timeOf_0 : cX1_timeOf.data.toList.drop 0 = dktX1_timeOf_0 := by decide +kernel
theorem dX1_timeOf_0 : decode cX1_timeOf 0 = .ok (.aload_n 0, 1) := dk_42 (dk_at dksX1_timeOf_0 0 rfl rfl)
theorem dX1_timeOf_1 : decode cX1_timeOf 1 = .ok (.iload_n 1, 1) := dk_27 (dk_at dksX1_timeOf_0 1 rfl rfl)
theorem dX1_timeOf_2 : decode cX1_timeOf 2 = .ok (.invokevirtual 178, 3) := dk_182 0 178 (dk_at dksX1_timeOf_0 2 rfl rfl)
theorem dX1_timeOf_5 : decode cX1_timeOf 5 = .ok (.getfield 182, 3) := dk_180 0 182 (dk_at dksX1_timeOf_0 5 rfl rfl)
theorem dX1_timeOf_8 : decode cX1_timeOf 8 = .ok (.ireturn, 1) := dk_172 (dk_at dksX1_timeOf_0 8 rfl rfl)
abbrev cX1_its : ByteArray := prog_1_method_53_code
def yX1_its : MethodName := ⟨RX1, "its", "(I)LLogGrammar$Event;"⟩
def dkwX1_its_1 : List UInt8 := [185, 0, 175, 2, 0, 192, 0, 81, 176]
abbrev dktX1_its_1 : List UInt8 := dkwX1_its_1 ++ []
def dkwX1_its_0 : List UInt8 := [27, 3, 42, 180, 0, 20, 185, 0, 157, 1, 0, 4, 100, 184, 0, 65, 184, 0, 61, 42, 180, 0, 20, 27]
abbrev dktX1_its_0 : List UInt8 := dkwX1_its_0 ++ dktX1_its_1
theorem dksX1_its_0 : cX1_its.data.toList.drop 0 = dktX1_its_0 := by decide +kernel
theorem dksX1_its_1 : cX1_its.data.toList.drop 24 = dktX1_its_1 := dk_seg dksX1_its_0 24 rfl rfl
theorem dX1_its_0 : decode cX1_its 0 = .ok (.iload_n 1, 1) := dk_27 (dk_at dksX1_its_0 0 rfl rfl)
theorem dX1_its_1 : decode cX1_its 1 = .ok (.iconst 0, 1) := dk_3 (dk_at dksX1_its_0 1 rfl rfl)
theorem dX1_its_2 : decode cX1_its 2 = .ok (.aload_n 0, 1) := dk_42 (dk_at dksX1_its_0 2 rfl rfl)
theorem dX1_its_3 : decode cX1_its 3 = .ok (.getfield 20, 3) := dk_180 0 20 (dk_at dksX1_its_0 3 rfl rfl)
theorem dX1_its_6 : decode cX1_its 6 = .ok (.invokeinterface 157 1, 5) := by decide +kernel
theorem dX1_its_11 : decode cX1_its 11 = .ok (.iconst 1, 1) := dk_4 (dk_at dksX1_its_0 11 rfl rfl)
theorem dX1_its_12 : decode cX1_its 12 = .ok (.isub, 1) := dk_100 (dk_at dksX1_its_0 12 rfl rfl)
theorem dX1_its_13 : decode cX1_its 13 = .ok (.invokestatic 65, 3) := dk_184 0 65 (dk_at dksX1_its_0 13 rfl rfl)
theorem dX1_its_16 : decode cX1_its 16 = .ok (.invokestatic 61, 3) := dk_184 0 61 (dk_at dksX1_its_0 16 rfl rfl)
theorem dX1_its_19 : decode cX1_its 19 = .ok (.aload_n 0, 1) := dk_42 (dk_at dksX1_its_0 19 rfl rfl)
theorem dX1_its_20 : decode cX1_its 20 = .ok (.getfield 20, 3) := dk_180 0 20 (dk_at dksX1_its_0 20 rfl rfl)
theorem dX1_its_23 : decode cX1_its 23 = .ok (.iload_n 1, 1) := dk_27 (dk_at dksX1_its_0 23 rfl rfl)
theorem dX1_its_24 : decode cX1_its 24 = .ok (.invokeinterface 175 2, 5) := by decide +kernel
theorem dX1_its_29 : decode cX1_its 29 = .ok (.checkcast 81, 3) := dk_192 0 81 (dk_at dksX1_its_1 5 rfl rfl)
theorem dX1_its_32 : decode cX1_its 32 = .ok (.areturn, 1) := dk_176 (dk_at dksX1_its_1 8 rfl rfl)
abbrev cX1_isLate : ByteArray := prog_1_method_29_code
def yX1_isLate : MethodName := ⟨RX1, "isLate", "(I)Z"⟩
def dkwX1_isLate_0 : List UInt8 := [42, 27, 182, 0, 178, 180, 0, 185, 172]
abbrev dktX1_isLate_0 : List UInt8 := dkwX1_isLate_0 ++ []
theorem dksX1_isLate_0 : cX1_isLate.data.toList.drop 0 = dktX1_isLate_0 := by decide +kernel
theorem dX1_isLate_0 : decode cX1_isLate 0 = .ok (.aload_n 0, 1) := dk_42 (dk_at dksX1_isLate_0 0 rfl rfl)
theorem dX1_isLate_1 : decode cX1_isLate 1 = .ok (.iload_n 1, 1) := dk_27 (dk_at dksX1_isLate_0 1 rfl rfl)
theorem dX1_isLate_2 : decode cX1_isLate 2 = .ok (.invokevirtual 178, 3) := dk_182 0 178 (dk_at dksX1_isLate_0 2 rfl rfl)
theorem dX1_isLate_5 : decode cX1_isLate 5 = .ok (.getfield 185, 3) := dk_180 0 185 (dk_at dksX1_isLate_0 5 rfl rfl)
theorem dX1_isLate_8 : decode cX1_isLate 8 = .ok (.ireturn, 1) := dk_172 (dk_at dksX1_isLate_0 8 rfl rfl)
abbrev cX1_count : ByteArray := prog_1_method_30_code
def yX1_count : MethodName := ⟨RX1, "count", "(III)I"⟩
def dkwX1_count_3 : List UInt8 := [167, 0, 8, 25, 4, 180, 0, 194, 172]
abbrev dktX1_count_3 : List UInt8 := dkwX1_count_3 ++ []
def dkwX1_count_2 : List UInt8 := [185, 0, 175, 2, 0, 192, 0, 46, 28, 29, 182, 0, 188, 192, 0, 192, 58, 4, 25, 4, 199, 0, 7, 3]
abbrev dktX1_count_2 : List UInt8 := dkwX1_count_2 ++ dktX1_count_3
def dkwX1_count_1 : List UInt8 := [17, 42, 248, 184, 0, 65, 153, 0, 7, 4, 167, 0, 4, 3, 184, 0, 69, 42, 180, 0, 27, 27]
abbrev dktX1_count_1 : List UInt8 := dkwX1_count_1 ++ dktX1_count_2
def dkwX1_count_0 : List UInt8 := [27, 3, 16, 7, 184, 0, 65, 153, 0, 29, 28, 3, 17, 42, 248, 184, 0, 65, 153, 0, 18, 29, 28]
abbrev dktX1_count_0 : List UInt8 := dkwX1_count_0 ++ dktX1_count_1
theorem dksX1_count_0 : cX1_count.data.toList.drop 0 = dktX1_count_0 := by decide +kernel
theorem dksX1_count_1 : cX1_count.data.toList.drop 23 = dktX1_count_1 := dk_seg dksX1_count_0 23 rfl rfl
theorem dksX1_count_2 : cX1_count.data.toList.drop 45 = dktX1_count_2 := dk_seg dksX1_count_1 22 rfl rfl
theorem dksX1_count_3 : cX1_count.data.toList.drop 69 = dktX1_count_3 := dk_seg dksX1_count_2 24 rfl rfl
theorem dX1_count_0 : decode cX1_count 0 = .ok (.iload_n 1, 1) := dk_27 (dk_at dksX1_count_0 0 rfl rfl)
theorem dX1_count_1 : decode cX1_count 1 = .ok (.iconst 0, 1) := dk_3 (dk_at dksX1_count_0 1 rfl rfl)
theorem dX1_count_2 : decode cX1_count 2 = .ok (.bipush 7, 2) := dk_16 7 (dk_at dksX1_count_0 2 rfl rfl)
theorem dX1_count_4 : decode cX1_count 4 = .ok (.invokestatic 65, 3) := dk_184 0 65 (dk_at dksX1_count_0 4 rfl rfl)
theorem dX1_count_7 : decode cX1_count 7 = .ok (.ifCond .eq 29, 3) := dk_153 0 29 (dk_at dksX1_count_0 7 rfl rfl)
theorem dX1_count_10 : decode cX1_count 10 = .ok (.iload_n 2, 1) := dk_28 (dk_at dksX1_count_0 10 rfl rfl)
theorem dX1_count_11 : decode cX1_count 11 = .ok (.iconst 0, 1) := dk_3 (dk_at dksX1_count_0 11 rfl rfl)
theorem dX1_count_12 : decode cX1_count 12 = .ok (.sipush 11000, 3) := dk_17 42 248 (dk_at dksX1_count_0 12 rfl rfl)
theorem dX1_count_15 : decode cX1_count 15 = .ok (.invokestatic 65, 3) := dk_184 0 65 (dk_at dksX1_count_0 15 rfl rfl)
theorem dX1_count_18 : decode cX1_count 18 = .ok (.ifCond .eq 18, 3) := dk_153 0 18 (dk_at dksX1_count_0 18 rfl rfl)
theorem dX1_count_21 : decode cX1_count 21 = .ok (.iload_n 3, 1) := dk_29 (dk_at dksX1_count_0 21 rfl rfl)
theorem dX1_count_22 : decode cX1_count 22 = .ok (.iload_n 2, 1) := dk_28 (dk_at dksX1_count_0 22 rfl rfl)
theorem dX1_count_23 : decode cX1_count 23 = .ok (.sipush 11000, 3) := dk_17 42 248 (dk_at dksX1_count_1 0 rfl rfl)
theorem dX1_count_26 : decode cX1_count 26 = .ok (.invokestatic 65, 3) := dk_184 0 65 (dk_at dksX1_count_1 3 rfl rfl)
theorem dX1_count_29 : decode cX1_count 29 = .ok (.ifCond .eq 7, 3) := dk_153 0 7 (dk_at dksX1_count_1 6 rfl rfl)
theorem dX1_count_32 : decode cX1_count 32 = .ok (.iconst 1, 1) := dk_4 (dk_at dksX1_count_1 9 rfl rfl)
theorem dX1_count_33 : decode cX1_count 33 = .ok (.goto 4, 3) := dk_167 0 4 (dk_at dksX1_count_1 10 rfl rfl)
theorem dX1_count_36 : decode cX1_count 36 = .ok (.iconst 0, 1) := dk_3 (dk_at dksX1_count_1 13 rfl rfl)
theorem dX1_count_37 : decode cX1_count 37 = .ok (.invokestatic 69, 3) := dk_184 0 69 (dk_at dksX1_count_1 14 rfl rfl)
theorem dX1_count_40 : decode cX1_count 40 = .ok (.aload_n 0, 1) := dk_42 (dk_at dksX1_count_1 17 rfl rfl)
theorem dX1_count_41 : decode cX1_count 41 = .ok (.getfield 27, 3) := dk_180 0 27 (dk_at dksX1_count_1 18 rfl rfl)
theorem dX1_count_44 : decode cX1_count 44 = .ok (.iload_n 1, 1) := dk_27 (dk_at dksX1_count_1 21 rfl rfl)
theorem dX1_count_45 : decode cX1_count 45 = .ok (.invokeinterface 175 2, 5) := by decide +kernel
theorem dX1_count_50 : decode cX1_count 50 = .ok (.checkcast 46, 3) := dk_192 0 46 (dk_at dksX1_count_2 5 rfl rfl)
theorem dX1_count_53 : decode cX1_count 53 = .ok (.iload_n 2, 1) := dk_28 (dk_at dksX1_count_2 8 rfl rfl)
theorem dX1_count_54 : decode cX1_count 54 = .ok (.iload_n 3, 1) := dk_29 (dk_at dksX1_count_2 9 rfl rfl)
theorem dX1_count_55 : decode cX1_count 55 = .ok (.invokevirtual 188, 3) := dk_182 0 188 (dk_at dksX1_count_2 10 rfl rfl)
theorem dX1_count_58 : decode cX1_count 58 = .ok (.checkcast 192, 3) := dk_192 0 192 (dk_at dksX1_count_2 13 rfl rfl)
theorem dX1_count_61 : decode cX1_count 61 = .ok (.astore 4, 2) := dk_58 4 (dk_at dksX1_count_2 16 rfl rfl)
theorem dX1_count_63 : decode cX1_count 63 = .ok (.aload 4, 2) := dk_25 4 (dk_at dksX1_count_2 18 rfl rfl)
theorem dX1_count_65 : decode cX1_count 65 = .ok (.ifnonnull 7, 3) := dk_199 0 7 (dk_at dksX1_count_2 20 rfl rfl)
theorem dX1_count_68 : decode cX1_count 68 = .ok (.iconst 0, 1) := dk_3 (dk_at dksX1_count_2 23 rfl rfl)
theorem dX1_count_69 : decode cX1_count 69 = .ok (.goto 8, 3) := dk_167 0 8 (dk_at dksX1_count_3 0 rfl rfl)
theorem dX1_count_72 : decode cX1_count 72 = .ok (.aload 4, 2) := dk_25 4 (dk_at dksX1_count_3 3 rfl rfl)
theorem dX1_count_74 : decode cX1_count 74 = .ok (.getfield 194, 3) := dk_180 0 194 (dk_at dksX1_count_3 5 rfl rfl)
theorem dX1_count_77 : decode cX1_count 77 = .ok (.ireturn, 1) := dk_172 (dk_at dksX1_count_3 8 rfl rfl)
abbrev cX1_greatest : ByteArray := prog_1_method_31_code
def yX1_greatest : MethodName := ⟨RX1, "greatest", "(III)I"⟩
def dkwX1_greatest_3 : List UInt8 := [17, 252, 23, 167, 0, 8, 25, 4, 180, 0, 197, 172]
abbrev dktX1_greatest_3 : List UInt8 := dkwX1_greatest_3 ++ []
def dkwX1_greatest_2 : List UInt8 := [185, 0, 175, 2, 0, 192, 0, 46, 28, 29, 182, 0, 188, 192, 0, 192, 58, 4, 25, 4, 199, 0, 9]
abbrev dktX1_greatest_2 : List UInt8 := dkwX1_greatest_2 ++ dktX1_greatest_3
def dkwX1_greatest_1 : List UInt8 := [17, 42, 248, 184, 0, 65, 153, 0, 7, 4, 167, 0, 4, 3, 184, 0, 69, 42, 180, 0, 27, 27]
abbrev dktX1_greatest_1 : List UInt8 := dkwX1_greatest_1 ++ dktX1_greatest_2
def dkwX1_greatest_0 : List UInt8 := [27, 3, 16, 7, 184, 0, 65, 153, 0, 29, 28, 3, 17, 42, 248, 184, 0, 65, 153, 0, 18, 29, 28]
abbrev dktX1_greatest_0 : List UInt8 := dkwX1_greatest_0 ++ dktX1_greatest_1
theorem dksX1_greatest_0 : cX1_greatest.data.toList.drop 0 = dktX1_greatest_0 := by decide +kernel
theorem dksX1_greatest_1 : cX1_greatest.data.toList.drop 23 = dktX1_greatest_1 := dk_seg dksX1_greatest_0 23 rfl rfl
theorem dksX1_greatest_2 : cX1_greatest.data.toList.drop 45 = dktX1_greatest_2 := dk_seg dksX1_greatest_1 22 rfl rfl
theorem dksX1_greatest_3 : cX1_greatest.data.toList.drop 68 = dktX1_greatest_3 := dk_seg dksX1_greatest_2 23 rfl rfl
theorem dX1_greatest_0 : decode cX1_greatest 0 = .ok (.iload_n 1, 1) := dk_27 (dk_at dksX1_greatest_0 0 rfl rfl)
theorem dX1_greatest_1 : decode cX1_greatest 1 = .ok (.iconst 0, 1) := dk_3 (dk_at dksX1_greatest_0 1 rfl rfl)
theorem dX1_greatest_2 : decode cX1_greatest 2 = .ok (.bipush 7, 2) := dk_16 7 (dk_at dksX1_greatest_0 2 rfl rfl)
theorem dX1_greatest_4 : decode cX1_greatest 4 = .ok (.invokestatic 65, 3) := dk_184 0 65 (dk_at dksX1_greatest_0 4 rfl rfl)
theorem dX1_greatest_7 : decode cX1_greatest 7 = .ok (.ifCond .eq 29, 3) := dk_153 0 29 (dk_at dksX1_greatest_0 7 rfl rfl)
theorem dX1_greatest_10 : decode cX1_greatest 10 = .ok (.iload_n 2, 1) := dk_28 (dk_at dksX1_greatest_0 10 rfl rfl)
theorem dX1_greatest_11 : decode cX1_greatest 11 = .ok (.iconst 0, 1) := dk_3 (dk_at dksX1_greatest_0 11 rfl rfl)
theorem dX1_greatest_12 : decode cX1_greatest 12 = .ok (.sipush 11000, 3) := dk_17 42 248 (dk_at dksX1_greatest_0 12 rfl rfl)
theorem dX1_greatest_15 : decode cX1_greatest 15 = .ok (.invokestatic 65, 3) := dk_184 0 65 (dk_at dksX1_greatest_0 15 rfl rfl)
theorem dX1_greatest_18 : decode cX1_greatest 18 = .ok (.ifCond .eq 18, 3) := dk_153 0 18 (dk_at dksX1_greatest_0 18 rfl rfl)
theorem dX1_greatest_21 : decode cX1_greatest 21 = .ok (.iload_n 3, 1) := dk_29 (dk_at dksX1_greatest_0 21 rfl rfl)
theorem dX1_greatest_22 : decode cX1_greatest 22 = .ok (.iload_n 2, 1) := dk_28 (dk_at dksX1_greatest_0 22 rfl rfl)
theorem dX1_greatest_23 : decode cX1_greatest 23 = .ok (.sipush 11000, 3) := dk_17 42 248 (dk_at dksX1_greatest_1 0 rfl rfl)
theorem dX1_greatest_26 : decode cX1_greatest 26 = .ok (.invokestatic 65, 3) := dk_184 0 65 (dk_at dksX1_greatest_1 3 rfl rfl)
theorem dX1_greatest_29 : decode cX1_greatest 29 = .ok (.ifCond .eq 7, 3) := dk_153 0 7 (dk_at dksX1_greatest_1 6 rfl rfl)
theorem dX1_greatest_32 : decode cX1_greatest 32 = .ok (.iconst 1, 1) := dk_4 (dk_at dksX1_greatest_1 9 rfl rfl)
theorem dX1_greatest_33 : decode cX1_greatest 33 = .ok (.goto 4, 3) := dk_167 0 4 (dk_at dksX1_greatest_1 10 rfl rfl)
theorem dX1_greatest_36 : decode cX1_greatest 36 = .ok (.iconst 0, 1) := dk_3 (dk_at dksX1_greatest_1 13 rfl rfl)
theorem dX1_greatest_37 : decode cX1_greatest 37 = .ok (.invokestatic 69, 3) := dk_184 0 69 (dk_at dksX1_greatest_1 14 rfl rfl)
theorem dX1_greatest_40 : decode cX1_greatest 40 = .ok (.aload_n 0, 1) := dk_42 (dk_at dksX1_greatest_1 17 rfl rfl)
theorem dX1_greatest_41 : decode cX1_greatest 41 = .ok (.getfield 27, 3) := dk_180 0 27 (dk_at dksX1_greatest_1 18 rfl rfl)
theorem dX1_greatest_44 : decode cX1_greatest 44 = .ok (.iload_n 1, 1) := dk_27 (dk_at dksX1_greatest_1 21 rfl rfl)
theorem dX1_greatest_45 : decode cX1_greatest 45 = .ok (.invokeinterface 175 2, 5) := by decide +kernel
theorem dX1_greatest_50 : decode cX1_greatest 50 = .ok (.checkcast 46, 3) := dk_192 0 46 (dk_at dksX1_greatest_2 5 rfl rfl)
theorem dX1_greatest_53 : decode cX1_greatest 53 = .ok (.iload_n 2, 1) := dk_28 (dk_at dksX1_greatest_2 8 rfl rfl)
theorem dX1_greatest_54 : decode cX1_greatest 54 = .ok (.iload_n 3, 1) := dk_29 (dk_at dksX1_greatest_2 9 rfl rfl)
theorem dX1_greatest_55 : decode cX1_greatest 55 = .ok (.invokevirtual 188, 3) := dk_182 0 188 (dk_at dksX1_greatest_2 10 rfl rfl)
theorem dX1_greatest_58 : decode cX1_greatest 58 = .ok (.checkcast 192, 3) := dk_192 0 192 (dk_at dksX1_greatest_2 13 rfl rfl)
theorem dX1_greatest_61 : decode cX1_greatest 61 = .ok (.astore 4, 2) := dk_58 4 (dk_at dksX1_greatest_2 16 rfl rfl)
theorem dX1_greatest_63 : decode cX1_greatest 63 = .ok (.aload 4, 2) := dk_25 4 (dk_at dksX1_greatest_2 18 rfl rfl)
theorem dX1_greatest_65 : decode cX1_greatest 65 = .ok (.ifnonnull 9, 3) := dk_199 0 9 (dk_at dksX1_greatest_2 20 rfl rfl)
theorem dX1_greatest_68 : decode cX1_greatest 68 = .ok (.sipush (-1001), 3) := dk_17 252 23 (dk_at dksX1_greatest_3 0 rfl rfl)
theorem dX1_greatest_71 : decode cX1_greatest 71 = .ok (.goto 8, 3) := dk_167 0 8 (dk_at dksX1_greatest_3 3 rfl rfl)
theorem dX1_greatest_74 : decode cX1_greatest 74 = .ok (.aload 4, 2) := dk_25 4 (dk_at dksX1_greatest_3 6 rfl rfl)
theorem dX1_greatest_76 : decode cX1_greatest 76 = .ok (.getfield 197, 3) := dk_180 0 197 (dk_at dksX1_greatest_3 8 rfl rfl)
theorem dX1_greatest_79 : decode cX1_greatest 79 = .ok (.ireturn, 1) := dk_172 (dk_at dksX1_greatest_3 11 rfl rfl)
abbrev cX1_greatestByAll : ByteArray := prog_1_method_32_code
def yX1_greatestByAll : MethodName := ⟨RX1, "greatestByAll", "(III)I"⟩
def dkwX1_greatestByAll_5 : List UInt8 := [54, 4, 167, 255, 195, 21, 4, 172]
abbrev dktX1_greatestByAll_5 : List UInt8 := dkwX1_greatestByAll_5 ++ []
def dkwX1_greatestByAll_4 : List UInt8 := [28, 29, 184, 0, 65, 153, 0, 16, 21, 4, 25, 6, 180, 0, 217, 184, 0, 220, 167, 0, 5, 21, 4]
abbrev dktX1_greatestByAll_4 : List UInt8 := dkwX1_greatestByAll_4 ++ dktX1_greatestByAll_5
def dkwX1_greatestByAll_3 : List UInt8 := [185, 0, 210, 1, 0, 192, 0, 81, 58, 6, 25, 6, 180, 0, 214, 27, 160, 0, 29, 25, 6, 180, 0, 182]
abbrev dktX1_greatestByAll_3 : List UInt8 := dkwX1_greatestByAll_3 ++ dktX1_greatestByAll_4
def dkwX1_greatestByAll_2 : List UInt8 := [180, 0, 20, 185, 0, 200, 1, 0, 58, 5, 25, 5, 185, 0, 204, 1, 0, 153, 0, 57, 25, 5]
abbrev dktX1_greatestByAll_2 : List UInt8 := dkwX1_greatestByAll_2 ++ dktX1_greatestByAll_3
def dkwX1_greatestByAll_1 : List UInt8 := [17, 42, 248, 184, 0, 65, 153, 0, 7, 4, 167, 0, 4, 3, 184, 0, 69, 17, 252, 23, 54, 4, 42]
abbrev dktX1_greatestByAll_1 : List UInt8 := dkwX1_greatestByAll_1 ++ dktX1_greatestByAll_2
def dkwX1_greatestByAll_0 : List UInt8 := [27, 3, 16, 7, 184, 0, 65, 153, 0, 29, 28, 3, 17, 42, 248, 184, 0, 65, 153, 0, 18, 29, 28]
abbrev dktX1_greatestByAll_0 : List UInt8 := dkwX1_greatestByAll_0 ++ dktX1_greatestByAll_1
theorem dksX1_greatestByAll_0 : cX1_greatestByAll.data.toList.drop 0 = dktX1_greatestByAll_0 := by decide +kernel
theorem dksX1_greatestByAll_1 : cX1_greatestByAll.data.toList.drop 23 = dktX1_greatestByAll_1 := dk_seg dksX1_greatestByAll_0 23 rfl rfl
theorem dksX1_greatestByAll_2 : cX1_greatestByAll.data.toList.drop 46 = dktX1_greatestByAll_2 := dk_seg dksX1_greatestByAll_1 23 rfl rfl
theorem dksX1_greatestByAll_3 : cX1_greatestByAll.data.toList.drop 68 = dktX1_greatestByAll_3 := dk_seg dksX1_greatestByAll_2 22 rfl rfl
theorem dksX1_greatestByAll_4 : cX1_greatestByAll.data.toList.drop 92 = dktX1_greatestByAll_4 := dk_seg dksX1_greatestByAll_3 24 rfl rfl
theorem dksX1_greatestByAll_5 : cX1_greatestByAll.data.toList.drop 115 = dktX1_greatestByAll_5 := dk_seg dksX1_greatestByAll_4 23 rfl rfl
theorem dX1_greatestByAll_0 : decode cX1_greatestByAll 0 = .ok (.iload_n 1, 1) := dk_27 (dk_at dksX1_greatestByAll_0 0 rfl rfl)
theorem dX1_greatestByAll_1 : decode cX1_greatestByAll 1 = .ok (.iconst 0, 1) := dk_3 (dk_at dksX1_greatestByAll_0 1 rfl rfl)
theorem dX1_greatestByAll_2 : decode cX1_greatestByAll 2 = .ok (.bipush 7, 2) := dk_16 7 (dk_at dksX1_greatestByAll_0 2 rfl rfl)
theorem dX1_greatestByAll_4 : decode cX1_greatestByAll 4 = .ok (.invokestatic 65, 3) := dk_184 0 65 (dk_at dksX1_greatestByAll_0 4 rfl rfl)
theorem dX1_greatestByAll_7 : decode cX1_greatestByAll 7 = .ok (.ifCond .eq 29, 3) := dk_153 0 29 (dk_at dksX1_greatestByAll_0 7 rfl rfl)
theorem dX1_greatestByAll_10 : decode cX1_greatestByAll 10 = .ok (.iload_n 2, 1) := dk_28 (dk_at dksX1_greatestByAll_0 10 rfl rfl)
theorem dX1_greatestByAll_11 : decode cX1_greatestByAll 11 = .ok (.iconst 0, 1) := dk_3 (dk_at dksX1_greatestByAll_0 11 rfl rfl)
theorem dX1_greatestByAll_12 : decode cX1_greatestByAll 12 = .ok (.sipush 11000, 3) := dk_17 42 248 (dk_at dksX1_greatestByAll_0 12 rfl rfl)
theorem dX1_greatestByAll_15 : decode cX1_greatestByAll 15 = .ok (.invokestatic 65, 3) := dk_184 0 65 (dk_at dksX1_greatestByAll_0 15 rfl rfl)
theorem dX1_greatestByAll_18 : decode cX1_greatestByAll 18 = .ok (.ifCond .eq 18, 3) := dk_153 0 18 (dk_at dksX1_greatestByAll_0 18 rfl rfl)
theorem dX1_greatestByAll_21 : decode cX1_greatestByAll 21 = .ok (.iload_n 3, 1) := dk_29 (dk_at dksX1_greatestByAll_0 21 rfl rfl)
theorem dX1_greatestByAll_22 : decode cX1_greatestByAll 22 = .ok (.iload_n 2, 1) := dk_28 (dk_at dksX1_greatestByAll_0 22 rfl rfl)
theorem dX1_greatestByAll_23 : decode cX1_greatestByAll 23 = .ok (.sipush 11000, 3) := dk_17 42 248 (dk_at dksX1_greatestByAll_1 0 rfl rfl)
theorem dX1_greatestByAll_26 : decode cX1_greatestByAll 26 = .ok (.invokestatic 65, 3) := dk_184 0 65 (dk_at dksX1_greatestByAll_1 3 rfl rfl)
theorem dX1_greatestByAll_29 : decode cX1_greatestByAll 29 = .ok (.ifCond .eq 7, 3) := dk_153 0 7 (dk_at dksX1_greatestByAll_1 6 rfl rfl)
theorem dX1_greatestByAll_32 : decode cX1_greatestByAll 32 = .ok (.iconst 1, 1) := dk_4 (dk_at dksX1_greatestByAll_1 9 rfl rfl)
theorem dX1_greatestByAll_33 : decode cX1_greatestByAll 33 = .ok (.goto 4, 3) := dk_167 0 4 (dk_at dksX1_greatestByAll_1 10 rfl rfl)
theorem dX1_greatestByAll_36 : decode cX1_greatestByAll 36 = .ok (.iconst 0, 1) := dk_3 (dk_at dksX1_greatestByAll_1 13 rfl rfl)
theorem dX1_greatestByAll_37 : decode cX1_greatestByAll 37 = .ok (.invokestatic 69, 3) := dk_184 0 69 (dk_at dksX1_greatestByAll_1 14 rfl rfl)
theorem dX1_greatestByAll_40 : decode cX1_greatestByAll 40 = .ok (.sipush (-1001), 3) := dk_17 252 23 (dk_at dksX1_greatestByAll_1 17 rfl rfl)
theorem dX1_greatestByAll_43 : decode cX1_greatestByAll 43 = .ok (.istore 4, 2) := dk_54 4 (dk_at dksX1_greatestByAll_1 20 rfl rfl)
theorem dX1_greatestByAll_45 : decode cX1_greatestByAll 45 = .ok (.aload_n 0, 1) := dk_42 (dk_at dksX1_greatestByAll_1 22 rfl rfl)
theorem dX1_greatestByAll_46 : decode cX1_greatestByAll 46 = .ok (.getfield 20, 3) := dk_180 0 20 (dk_at dksX1_greatestByAll_2 0 rfl rfl)
theorem dX1_greatestByAll_49 : decode cX1_greatestByAll 49 = .ok (.invokeinterface 200 1, 5) := by decide +kernel
theorem dX1_greatestByAll_54 : decode cX1_greatestByAll 54 = .ok (.astore 5, 2) := dk_58 5 (dk_at dksX1_greatestByAll_2 8 rfl rfl)
theorem dX1_greatestByAll_56 : decode cX1_greatestByAll 56 = .ok (.aload 5, 2) := dk_25 5 (dk_at dksX1_greatestByAll_2 10 rfl rfl)
theorem dX1_greatestByAll_58 : decode cX1_greatestByAll 58 = .ok (.invokeinterface 204 1, 5) := by decide +kernel
theorem dX1_greatestByAll_63 : decode cX1_greatestByAll 63 = .ok (.ifCond .eq 57, 3) := dk_153 0 57 (dk_at dksX1_greatestByAll_2 17 rfl rfl)
theorem dX1_greatestByAll_66 : decode cX1_greatestByAll 66 = .ok (.aload 5, 2) := dk_25 5 (dk_at dksX1_greatestByAll_2 20 rfl rfl)
theorem dX1_greatestByAll_68 : decode cX1_greatestByAll 68 = .ok (.invokeinterface 210 1, 5) := by decide +kernel
theorem dX1_greatestByAll_73 : decode cX1_greatestByAll 73 = .ok (.checkcast 81, 3) := dk_192 0 81 (dk_at dksX1_greatestByAll_3 5 rfl rfl)
theorem dX1_greatestByAll_76 : decode cX1_greatestByAll 76 = .ok (.astore 6, 2) := dk_58 6 (dk_at dksX1_greatestByAll_3 8 rfl rfl)
theorem dX1_greatestByAll_78 : decode cX1_greatestByAll 78 = .ok (.aload 6, 2) := dk_25 6 (dk_at dksX1_greatestByAll_3 10 rfl rfl)
theorem dX1_greatestByAll_80 : decode cX1_greatestByAll 80 = .ok (.getfield 214, 3) := dk_180 0 214 (dk_at dksX1_greatestByAll_3 12 rfl rfl)
theorem dX1_greatestByAll_83 : decode cX1_greatestByAll 83 = .ok (.iload_n 1, 1) := dk_27 (dk_at dksX1_greatestByAll_3 15 rfl rfl)
theorem dX1_greatestByAll_84 : decode cX1_greatestByAll 84 = .ok (.if_icmp .ne 29, 3) := dk_160 0 29 (dk_at dksX1_greatestByAll_3 16 rfl rfl)
theorem dX1_greatestByAll_87 : decode cX1_greatestByAll 87 = .ok (.aload 6, 2) := dk_25 6 (dk_at dksX1_greatestByAll_3 19 rfl rfl)
theorem dX1_greatestByAll_89 : decode cX1_greatestByAll 89 = .ok (.getfield 182, 3) := dk_180 0 182 (dk_at dksX1_greatestByAll_3 21 rfl rfl)
theorem dX1_greatestByAll_92 : decode cX1_greatestByAll 92 = .ok (.iload_n 2, 1) := dk_28 (dk_at dksX1_greatestByAll_4 0 rfl rfl)
theorem dX1_greatestByAll_93 : decode cX1_greatestByAll 93 = .ok (.iload_n 3, 1) := dk_29 (dk_at dksX1_greatestByAll_4 1 rfl rfl)
theorem dX1_greatestByAll_94 : decode cX1_greatestByAll 94 = .ok (.invokestatic 65, 3) := dk_184 0 65 (dk_at dksX1_greatestByAll_4 2 rfl rfl)
theorem dX1_greatestByAll_97 : decode cX1_greatestByAll 97 = .ok (.ifCond .eq 16, 3) := dk_153 0 16 (dk_at dksX1_greatestByAll_4 5 rfl rfl)
theorem dX1_greatestByAll_100 : decode cX1_greatestByAll 100 = .ok (.iload 4, 2) := dk_21 4 (dk_at dksX1_greatestByAll_4 8 rfl rfl)
theorem dX1_greatestByAll_102 : decode cX1_greatestByAll 102 = .ok (.aload 6, 2) := dk_25 6 (dk_at dksX1_greatestByAll_4 10 rfl rfl)
theorem dX1_greatestByAll_104 : decode cX1_greatestByAll 104 = .ok (.getfield 217, 3) := dk_180 0 217 (dk_at dksX1_greatestByAll_4 12 rfl rfl)
theorem dX1_greatestByAll_107 : decode cX1_greatestByAll 107 = .ok (.invokestatic 220, 3) := dk_184 0 220 (dk_at dksX1_greatestByAll_4 15 rfl rfl)
theorem dX1_greatestByAll_110 : decode cX1_greatestByAll 110 = .ok (.goto 5, 3) := dk_167 0 5 (dk_at dksX1_greatestByAll_4 18 rfl rfl)
theorem dX1_greatestByAll_113 : decode cX1_greatestByAll 113 = .ok (.iload 4, 2) := dk_21 4 (dk_at dksX1_greatestByAll_4 21 rfl rfl)
theorem dX1_greatestByAll_115 : decode cX1_greatestByAll 115 = .ok (.istore 4, 2) := dk_54 4 (dk_at dksX1_greatestByAll_5 0 rfl rfl)
theorem dX1_greatestByAll_117 : decode cX1_greatestByAll 117 = .ok (.goto (-61), 3) := dk_167 255 195 (dk_at dksX1_greatestByAll_5 2 rfl rfl)
theorem dX1_greatestByAll_120 : decode cX1_greatestByAll 120 = .ok (.iload 4, 2) := dk_21 4 (dk_at dksX1_greatestByAll_5 5 rfl rfl)
theorem dX1_greatestByAll_122 : decode cX1_greatestByAll 122 = .ok (.ireturn, 1) := dk_172 (dk_at dksX1_greatestByAll_5 7 rfl rfl)
abbrev cX1_answer : ByteArray := prog_1_method_33_code
def yX1_answer : MethodName := ⟨RX1, "answer", "(II)I"⟩
def dkwX1_answer_1 : List UInt8 := [192, 0, 233, 180, 0, 235, 192, 0, 239, 182, 0, 241, 172]
abbrev dktX1_answer_1 : List UInt8 := dkwX1_answer_1 ++ []
def dkwX1_answer_0 : List UInt8 := [42, 27, 182, 0, 226, 78, 42, 28, 182, 0, 178, 87, 45, 180, 0, 230, 28, 185, 0, 175, 2, 0]
abbrev dktX1_answer_0 : List UInt8 := dkwX1_answer_0 ++ dktX1_answer_1
theorem dksX1_answer_0 : cX1_answer.data.toList.drop 0 = dktX1_answer_0 := by decide +kernel
theorem dksX1_answer_1 : cX1_answer.data.toList.drop 22 = dktX1_answer_1 := dk_seg dksX1_answer_0 22 rfl rfl
theorem dX1_answer_0 : decode cX1_answer 0 = .ok (.aload_n 0, 1) := dk_42 (dk_at dksX1_answer_0 0 rfl rfl)
theorem dX1_answer_1 : decode cX1_answer 1 = .ok (.iload_n 1, 1) := dk_27 (dk_at dksX1_answer_0 1 rfl rfl)
theorem dX1_answer_2 : decode cX1_answer 2 = .ok (.invokevirtual 226, 3) := dk_182 0 226 (dk_at dksX1_answer_0 2 rfl rfl)
theorem dX1_answer_5 : decode cX1_answer 5 = .ok (.astore_n 3, 1) := dk_78 (dk_at dksX1_answer_0 5 rfl rfl)
theorem dX1_answer_6 : decode cX1_answer 6 = .ok (.aload_n 0, 1) := dk_42 (dk_at dksX1_answer_0 6 rfl rfl)
theorem dX1_answer_7 : decode cX1_answer 7 = .ok (.iload_n 2, 1) := dk_28 (dk_at dksX1_answer_0 7 rfl rfl)
theorem dX1_answer_8 : decode cX1_answer 8 = .ok (.invokevirtual 178, 3) := dk_182 0 178 (dk_at dksX1_answer_0 8 rfl rfl)
theorem dX1_answer_11 : decode cX1_answer 11 = .ok (.pop, 1) := dk_87 (dk_at dksX1_answer_0 11 rfl rfl)
theorem dX1_answer_12 : decode cX1_answer 12 = .ok (.aload_n 3, 1) := dk_45 (dk_at dksX1_answer_0 12 rfl rfl)
theorem dX1_answer_13 : decode cX1_answer 13 = .ok (.getfield 230, 3) := dk_180 0 230 (dk_at dksX1_answer_0 13 rfl rfl)
theorem dX1_answer_16 : decode cX1_answer 16 = .ok (.iload_n 2, 1) := dk_28 (dk_at dksX1_answer_0 16 rfl rfl)
theorem dX1_answer_17 : decode cX1_answer 17 = .ok (.invokeinterface 175 2, 5) := by decide +kernel
theorem dX1_answer_22 : decode cX1_answer 22 = .ok (.checkcast 233, 3) := dk_192 0 233 (dk_at dksX1_answer_1 0 rfl rfl)
theorem dX1_answer_25 : decode cX1_answer 25 = .ok (.getfield 235, 3) := dk_180 0 235 (dk_at dksX1_answer_1 3 rfl rfl)
theorem dX1_answer_28 : decode cX1_answer 28 = .ok (.checkcast 239, 3) := dk_192 0 239 (dk_at dksX1_answer_1 6 rfl rfl)
theorem dX1_answer_31 : decode cX1_answer 31 = .ok (.invokevirtual 241, 3) := dk_182 0 241 (dk_at dksX1_answer_1 9 rfl rfl)
theorem dX1_answer_34 : decode cX1_answer 34 = .ok (.ireturn, 1) := dk_172 (dk_at dksX1_answer_1 12 rfl rfl)
abbrev cX1_monitor : ByteArray := prog_1_method_54_code
def yX1_monitor : MethodName := ⟨RX1, "monitor", "(I)LLogGrammar$Monitor;"⟩
def dkwX1_monitor_1 : List UInt8 := [185, 0, 175, 2, 0, 192, 0, 163, 176]
abbrev dktX1_monitor_1 : List UInt8 := dkwX1_monitor_1 ++ []
def dkwX1_monitor_0 : List UInt8 := [27, 3, 42, 180, 0, 37, 185, 0, 157, 1, 0, 4, 100, 184, 0, 65, 184, 0, 61, 42, 180, 0, 37, 27]
abbrev dktX1_monitor_0 : List UInt8 := dkwX1_monitor_0 ++ dktX1_monitor_1
theorem dksX1_monitor_0 : cX1_monitor.data.toList.drop 0 = dktX1_monitor_0 := by decide +kernel
theorem dksX1_monitor_1 : cX1_monitor.data.toList.drop 24 = dktX1_monitor_1 := dk_seg dksX1_monitor_0 24 rfl rfl
theorem dX1_monitor_0 : decode cX1_monitor 0 = .ok (.iload_n 1, 1) := dk_27 (dk_at dksX1_monitor_0 0 rfl rfl)
theorem dX1_monitor_1 : decode cX1_monitor 1 = .ok (.iconst 0, 1) := dk_3 (dk_at dksX1_monitor_0 1 rfl rfl)
theorem dX1_monitor_2 : decode cX1_monitor 2 = .ok (.aload_n 0, 1) := dk_42 (dk_at dksX1_monitor_0 2 rfl rfl)
theorem dX1_monitor_3 : decode cX1_monitor 3 = .ok (.getfield 37, 3) := dk_180 0 37 (dk_at dksX1_monitor_0 3 rfl rfl)
theorem dX1_monitor_6 : decode cX1_monitor 6 = .ok (.invokeinterface 157 1, 5) := by decide +kernel
theorem dX1_monitor_11 : decode cX1_monitor 11 = .ok (.iconst 1, 1) := dk_4 (dk_at dksX1_monitor_0 11 rfl rfl)
theorem dX1_monitor_12 : decode cX1_monitor 12 = .ok (.isub, 1) := dk_100 (dk_at dksX1_monitor_0 12 rfl rfl)
theorem dX1_monitor_13 : decode cX1_monitor 13 = .ok (.invokestatic 65, 3) := dk_184 0 65 (dk_at dksX1_monitor_0 13 rfl rfl)
theorem dX1_monitor_16 : decode cX1_monitor 16 = .ok (.invokestatic 61, 3) := dk_184 0 61 (dk_at dksX1_monitor_0 16 rfl rfl)
theorem dX1_monitor_19 : decode cX1_monitor 19 = .ok (.aload_n 0, 1) := dk_42 (dk_at dksX1_monitor_0 19 rfl rfl)
theorem dX1_monitor_20 : decode cX1_monitor 20 = .ok (.getfield 37, 3) := dk_180 0 37 (dk_at dksX1_monitor_0 20 rfl rfl)
theorem dX1_monitor_23 : decode cX1_monitor 23 = .ok (.iload_n 1, 1) := dk_27 (dk_at dksX1_monitor_0 23 rfl rfl)
theorem dX1_monitor_24 : decode cX1_monitor 24 = .ok (.invokeinterface 175 2, 5) := by decide +kernel
theorem dX1_monitor_29 : decode cX1_monitor 29 = .ok (.checkcast 163, 3) := dk_192 0 163 (dk_at dksX1_monitor_1 5 rfl rfl)
theorem dX1_monitor_32 : decode cX1_monitor 32 = .ok (.areturn, 1) := dk_176 (dk_at dksX1_monitor_1 8 rfl rfl)
abbrev cX1_answerAnew : ByteArray := prog_1_method_34_code
def yX1_answerAnew : MethodName := ⟨RX1, "answerAnew", "(II)I"⟩
def dkwX1_answerAnew_0 : List UInt8 := [42, 27, 182, 0, 226, 78, 45, 42, 28, 182, 0, 178, 42, 180, 0, 24, 4, 182, 0, 244, 172]
abbrev dktX1_answerAnew_0 : List UInt8 := dkwX1_answerAnew_0 ++ []
theorem dksX1_answerAnew_0 : cX1_answerAnew.data.toList.drop 0 = dktX1_answerAnew_0 := by decide +kernel
theorem dX1_answerAnew_0 : decode cX1_answerAnew 0 = .ok (.aload_n 0, 1) := dk_42 (dk_at dksX1_answerAnew_0 0 rfl rfl)
theorem dX1_answerAnew_1 : decode cX1_answerAnew 1 = .ok (.iload_n 1, 1) := dk_27 (dk_at dksX1_answerAnew_0 1 rfl rfl)
theorem dX1_answerAnew_2 : decode cX1_answerAnew 2 = .ok (.invokevirtual 226, 3) := dk_182 0 226 (dk_at dksX1_answerAnew_0 2 rfl rfl)
theorem dX1_answerAnew_5 : decode cX1_answerAnew 5 = .ok (.astore_n 3, 1) := dk_78 (dk_at dksX1_answerAnew_0 5 rfl rfl)
theorem dX1_answerAnew_6 : decode cX1_answerAnew 6 = .ok (.aload_n 3, 1) := dk_45 (dk_at dksX1_answerAnew_0 6 rfl rfl)
theorem dX1_answerAnew_7 : decode cX1_answerAnew 7 = .ok (.aload_n 0, 1) := dk_42 (dk_at dksX1_answerAnew_0 7 rfl rfl)
theorem dX1_answerAnew_8 : decode cX1_answerAnew 8 = .ok (.iload_n 2, 1) := dk_28 (dk_at dksX1_answerAnew_0 8 rfl rfl)
theorem dX1_answerAnew_9 : decode cX1_answerAnew 9 = .ok (.invokevirtual 178, 3) := dk_182 0 178 (dk_at dksX1_answerAnew_0 9 rfl rfl)
theorem dX1_answerAnew_12 : decode cX1_answerAnew 12 = .ok (.aload_n 0, 1) := dk_42 (dk_at dksX1_answerAnew_0 12 rfl rfl)
theorem dX1_answerAnew_13 : decode cX1_answerAnew 13 = .ok (.getfield 24, 3) := dk_180 0 24 (dk_at dksX1_answerAnew_0 13 rfl rfl)
theorem dX1_answerAnew_16 : decode cX1_answerAnew 16 = .ok (.iconst 1, 1) := dk_4 (dk_at dksX1_answerAnew_0 16 rfl rfl)
theorem dX1_answerAnew_17 : decode cX1_answerAnew 17 = .ok (.invokevirtual 244, 3) := dk_182 0 244 (dk_at dksX1_answerAnew_0 17 rfl rfl)
theorem dX1_answerAnew_20 : decode cX1_answerAnew 20 = .ok (.ireturn, 1) := dk_172 (dk_at dksX1_answerAnew_0 20 rfl rfl)
abbrev cX1_knownSince : ByteArray := prog_1_method_35_code
def yX1_knownSince : MethodName := ⟨RX1, "knownSince", "(II)I"⟩
def dkwX1_knownSince_1 : List UInt8 := [192, 0, 233, 180, 0, 248, 192, 0, 239, 182, 0, 241, 172]
abbrev dktX1_knownSince_1 : List UInt8 := dkwX1_knownSince_1 ++ []
def dkwX1_knownSince_0 : List UInt8 := [42, 27, 182, 0, 226, 78, 42, 28, 182, 0, 178, 87, 45, 180, 0, 230, 28, 185, 0, 175, 2, 0]
abbrev dktX1_knownSince_0 : List UInt8 := dkwX1_knownSince_0 ++ dktX1_knownSince_1
theorem dksX1_knownSince_0 : cX1_knownSince.data.toList.drop 0 = dktX1_knownSince_0 := by decide +kernel
theorem dksX1_knownSince_1 : cX1_knownSince.data.toList.drop 22 = dktX1_knownSince_1 := dk_seg dksX1_knownSince_0 22 rfl rfl
theorem dX1_knownSince_0 : decode cX1_knownSince 0 = .ok (.aload_n 0, 1) := dk_42 (dk_at dksX1_knownSince_0 0 rfl rfl)
theorem dX1_knownSince_1 : decode cX1_knownSince 1 = .ok (.iload_n 1, 1) := dk_27 (dk_at dksX1_knownSince_0 1 rfl rfl)
theorem dX1_knownSince_2 : decode cX1_knownSince 2 = .ok (.invokevirtual 226, 3) := dk_182 0 226 (dk_at dksX1_knownSince_0 2 rfl rfl)
theorem dX1_knownSince_5 : decode cX1_knownSince 5 = .ok (.astore_n 3, 1) := dk_78 (dk_at dksX1_knownSince_0 5 rfl rfl)
theorem dX1_knownSince_6 : decode cX1_knownSince 6 = .ok (.aload_n 0, 1) := dk_42 (dk_at dksX1_knownSince_0 6 rfl rfl)
theorem dX1_knownSince_7 : decode cX1_knownSince 7 = .ok (.iload_n 2, 1) := dk_28 (dk_at dksX1_knownSince_0 7 rfl rfl)
theorem dX1_knownSince_8 : decode cX1_knownSince 8 = .ok (.invokevirtual 178, 3) := dk_182 0 178 (dk_at dksX1_knownSince_0 8 rfl rfl)
theorem dX1_knownSince_11 : decode cX1_knownSince 11 = .ok (.pop, 1) := dk_87 (dk_at dksX1_knownSince_0 11 rfl rfl)
theorem dX1_knownSince_12 : decode cX1_knownSince 12 = .ok (.aload_n 3, 1) := dk_45 (dk_at dksX1_knownSince_0 12 rfl rfl)
theorem dX1_knownSince_13 : decode cX1_knownSince 13 = .ok (.getfield 230, 3) := dk_180 0 230 (dk_at dksX1_knownSince_0 13 rfl rfl)
theorem dX1_knownSince_16 : decode cX1_knownSince 16 = .ok (.iload_n 2, 1) := dk_28 (dk_at dksX1_knownSince_0 16 rfl rfl)
theorem dX1_knownSince_17 : decode cX1_knownSince 17 = .ok (.invokeinterface 175 2, 5) := by decide +kernel
theorem dX1_knownSince_22 : decode cX1_knownSince 22 = .ok (.checkcast 233, 3) := dk_192 0 233 (dk_at dksX1_knownSince_1 0 rfl rfl)
theorem dX1_knownSince_25 : decode cX1_knownSince 25 = .ok (.getfield 248, 3) := dk_180 0 248 (dk_at dksX1_knownSince_1 3 rfl rfl)
theorem dX1_knownSince_28 : decode cX1_knownSince 28 = .ok (.checkcast 239, 3) := dk_192 0 239 (dk_at dksX1_knownSince_1 6 rfl rfl)
theorem dX1_knownSince_31 : decode cX1_knownSince 31 = .ok (.invokevirtual 241, 3) := dk_182 0 241 (dk_at dksX1_knownSince_1 9 rfl rfl)
theorem dX1_knownSince_34 : decode cX1_knownSince 34 = .ok (.ireturn, 1) := dk_172 (dk_at dksX1_knownSince_1 12 rfl rfl)
abbrev cX1_answers : ByteArray := prog_1_method_36_code
def yX1_answers : MethodName := ⟨RX1, "answers", "(II)I"⟩
def dkwX1_answers_3 : List UInt8 := [167, 0, 4, 3, 96, 54, 4, 167, 255, 209, 21, 4, 172]
abbrev dktX1_answers_3 : List UInt8 := dkwX1_answers_3 ++ []
def dkwX1_answers_2 : List UInt8 := [192, 0, 233, 58, 6, 21, 4, 25, 6, 180, 0, 235, 192, 0, 239, 182, 0, 241, 28, 160, 0, 7, 4]
abbrev dktX1_answers_2 : List UInt8 := dkwX1_answers_2 ++ dktX1_answers_3
def dkwX1_answers_1 : List UInt8 := [185, 0, 200, 1, 0, 58, 5, 25, 5, 185, 0, 204, 1, 0, 153, 0, 43, 25, 5, 185, 0, 210, 1, 0]
abbrev dktX1_answers_1 : List UInt8 := dkwX1_answers_1 ++ dktX1_answers_2
def dkwX1_answers_0 : List UInt8 := [42, 27, 182, 0, 226, 78, 28, 3, 5, 184, 0, 65, 184, 0, 69, 3, 54, 4, 45, 180, 0, 230]
abbrev dktX1_answers_0 : List UInt8 := dkwX1_answers_0 ++ dktX1_answers_1
theorem dksX1_answers_0 : cX1_answers.data.toList.drop 0 = dktX1_answers_0 := by decide +kernel
theorem dksX1_answers_1 : cX1_answers.data.toList.drop 22 = dktX1_answers_1 := dk_seg dksX1_answers_0 22 rfl rfl
theorem dksX1_answers_2 : cX1_answers.data.toList.drop 46 = dktX1_answers_2 := dk_seg dksX1_answers_1 24 rfl rfl
theorem dksX1_answers_3 : cX1_answers.data.toList.drop 69 = dktX1_answers_3 := dk_seg dksX1_answers_2 23 rfl rfl
theorem dX1_answers_0 : decode cX1_answers 0 = .ok (.aload_n 0, 1) := dk_42 (dk_at dksX1_answers_0 0 rfl rfl)
theorem dX1_answers_1 : decode cX1_answers 1 = .ok (.iload_n 1, 1) := dk_27 (dk_at dksX1_answers_0 1 rfl rfl)
theorem dX1_answers_2 : decode cX1_answers 2 = .ok (.invokevirtual 226, 3) := dk_182 0 226 (dk_at dksX1_answers_0 2 rfl rfl)
theorem dX1_answers_5 : decode cX1_answers 5 = .ok (.astore_n 3, 1) := dk_78 (dk_at dksX1_answers_0 5 rfl rfl)
theorem dX1_answers_6 : decode cX1_answers 6 = .ok (.iload_n 2, 1) := dk_28 (dk_at dksX1_answers_0 6 rfl rfl)
theorem dX1_answers_7 : decode cX1_answers 7 = .ok (.iconst 0, 1) := dk_3 (dk_at dksX1_answers_0 7 rfl rfl)
theorem dX1_answers_8 : decode cX1_answers 8 = .ok (.iconst 2, 1) := dk_5 (dk_at dksX1_answers_0 8 rfl rfl)
theorem dX1_answers_9 : decode cX1_answers 9 = .ok (.invokestatic 65, 3) := dk_184 0 65 (dk_at dksX1_answers_0 9 rfl rfl)
theorem dX1_answers_12 : decode cX1_answers 12 = .ok (.invokestatic 69, 3) := dk_184 0 69 (dk_at dksX1_answers_0 12 rfl rfl)
theorem dX1_answers_15 : decode cX1_answers 15 = .ok (.iconst 0, 1) := dk_3 (dk_at dksX1_answers_0 15 rfl rfl)
theorem dX1_answers_16 : decode cX1_answers 16 = .ok (.istore 4, 2) := dk_54 4 (dk_at dksX1_answers_0 16 rfl rfl)
theorem dX1_answers_18 : decode cX1_answers 18 = .ok (.aload_n 3, 1) := dk_45 (dk_at dksX1_answers_0 18 rfl rfl)
theorem dX1_answers_19 : decode cX1_answers 19 = .ok (.getfield 230, 3) := dk_180 0 230 (dk_at dksX1_answers_0 19 rfl rfl)
theorem dX1_answers_22 : decode cX1_answers 22 = .ok (.invokeinterface 200 1, 5) := by decide +kernel
theorem dX1_answers_27 : decode cX1_answers 27 = .ok (.astore 5, 2) := dk_58 5 (dk_at dksX1_answers_1 5 rfl rfl)
theorem dX1_answers_29 : decode cX1_answers 29 = .ok (.aload 5, 2) := dk_25 5 (dk_at dksX1_answers_1 7 rfl rfl)
theorem dX1_answers_31 : decode cX1_answers 31 = .ok (.invokeinterface 204 1, 5) := by decide +kernel
theorem dX1_answers_36 : decode cX1_answers 36 = .ok (.ifCond .eq 43, 3) := dk_153 0 43 (dk_at dksX1_answers_1 14 rfl rfl)
theorem dX1_answers_39 : decode cX1_answers 39 = .ok (.aload 5, 2) := dk_25 5 (dk_at dksX1_answers_1 17 rfl rfl)
theorem dX1_answers_41 : decode cX1_answers 41 = .ok (.invokeinterface 210 1, 5) := by decide +kernel
theorem dX1_answers_46 : decode cX1_answers 46 = .ok (.checkcast 233, 3) := dk_192 0 233 (dk_at dksX1_answers_2 0 rfl rfl)
theorem dX1_answers_49 : decode cX1_answers 49 = .ok (.astore 6, 2) := dk_58 6 (dk_at dksX1_answers_2 3 rfl rfl)
theorem dX1_answers_51 : decode cX1_answers 51 = .ok (.iload 4, 2) := dk_21 4 (dk_at dksX1_answers_2 5 rfl rfl)
theorem dX1_answers_53 : decode cX1_answers 53 = .ok (.aload 6, 2) := dk_25 6 (dk_at dksX1_answers_2 7 rfl rfl)
theorem dX1_answers_55 : decode cX1_answers 55 = .ok (.getfield 235, 3) := dk_180 0 235 (dk_at dksX1_answers_2 9 rfl rfl)
theorem dX1_answers_58 : decode cX1_answers 58 = .ok (.checkcast 239, 3) := dk_192 0 239 (dk_at dksX1_answers_2 12 rfl rfl)
theorem dX1_answers_61 : decode cX1_answers 61 = .ok (.invokevirtual 241, 3) := dk_182 0 241 (dk_at dksX1_answers_2 15 rfl rfl)
theorem dX1_answers_64 : decode cX1_answers 64 = .ok (.iload_n 2, 1) := dk_28 (dk_at dksX1_answers_2 18 rfl rfl)
theorem dX1_answers_65 : decode cX1_answers 65 = .ok (.if_icmp .ne 7, 3) := dk_160 0 7 (dk_at dksX1_answers_2 19 rfl rfl)
theorem dX1_answers_68 : decode cX1_answers 68 = .ok (.iconst 1, 1) := dk_4 (dk_at dksX1_answers_2 22 rfl rfl)
theorem dX1_answers_69 : decode cX1_answers 69 = .ok (.goto 4, 3) := dk_167 0 4 (dk_at dksX1_answers_3 0 rfl rfl)
theorem dX1_answers_72 : decode cX1_answers 72 = .ok (.iconst 0, 1) := dk_3 (dk_at dksX1_answers_3 3 rfl rfl)
theorem dX1_answers_73 : decode cX1_answers 73 = .ok (.iadd, 1) := dk_96 (dk_at dksX1_answers_3 4 rfl rfl)
theorem dX1_answers_74 : decode cX1_answers 74 = .ok (.istore 4, 2) := dk_54 4 (dk_at dksX1_answers_3 5 rfl rfl)
theorem dX1_answers_76 : decode cX1_answers 76 = .ok (.goto (-47), 3) := dk_167 255 209 (dk_at dksX1_answers_3 7 rfl rfl)
theorem dX1_answers_79 : decode cX1_answers 79 = .ok (.iload 4, 2) := dk_21 4 (dk_at dksX1_answers_3 10 rfl rfl)
theorem dX1_answers_81 : decode cX1_answers 81 = .ok (.ireturn, 1) := dk_172 (dk_at dksX1_answers_3 12 rfl rfl)
abbrev cX1_takenBack : ByteArray := prog_1_method_37_code
def yX1_takenBack : MethodName := ⟨RX1, "takenBack", "(I)I"⟩
def dkwX1_takenBack_0 : List UInt8 := [42, 27, 182, 0, 226, 180, 0, 251, 172]
abbrev dktX1_takenBack_0 : List UInt8 := dkwX1_takenBack_0 ++ []
theorem dksX1_takenBack_0 : cX1_takenBack.data.toList.drop 0 = dktX1_takenBack_0 := by decide +kernel
theorem dX1_takenBack_0 : decode cX1_takenBack 0 = .ok (.aload_n 0, 1) := dk_42 (dk_at dksX1_takenBack_0 0 rfl rfl)
theorem dX1_takenBack_1 : decode cX1_takenBack 1 = .ok (.iload_n 1, 1) := dk_27 (dk_at dksX1_takenBack_0 1 rfl rfl)
theorem dX1_takenBack_2 : decode cX1_takenBack 2 = .ok (.invokevirtual 226, 3) := dk_182 0 226 (dk_at dksX1_takenBack_0 2 rfl rfl)
theorem dX1_takenBack_5 : decode cX1_takenBack 5 = .ok (.getfield 251, 3) := dk_180 0 251 (dk_at dksX1_takenBack_0 5 rfl rfl)
theorem dX1_takenBack_8 : decode cX1_takenBack 8 = .ok (.ireturn, 1) := dk_172 (dk_at dksX1_takenBack_0 8 rfl rfl)
abbrev cX1_back : ByteArray := prog_1_method_38_code
def yX1_back : MethodName := ⟨RX1, "back", "(I)I"⟩
def dkwX1_back_0 : List UInt8 := [42, 27, 182, 0, 226, 180, 0, 254, 3, 182, 1, 2, 172]
abbrev dktX1_back_0 : List UInt8 := dkwX1_back_0 ++ []
theorem dksX1_back_0 : cX1_back.data.toList.drop 0 = dktX1_back_0 := by decide +kernel
theorem dX1_back_0 : decode cX1_back 0 = .ok (.aload_n 0, 1) := dk_42 (dk_at dksX1_back_0 0 rfl rfl)
theorem dX1_back_1 : decode cX1_back 1 = .ok (.iload_n 1, 1) := dk_27 (dk_at dksX1_back_0 1 rfl rfl)
theorem dX1_back_2 : decode cX1_back 2 = .ok (.invokevirtual 226, 3) := dk_182 0 226 (dk_at dksX1_back_0 2 rfl rfl)
theorem dX1_back_5 : decode cX1_back 5 = .ok (.getfield 254, 3) := dk_180 0 254 (dk_at dksX1_back_0 5 rfl rfl)
theorem dX1_back_8 : decode cX1_back 8 = .ok (.iconst 0, 1) := dk_3 (dk_at dksX1_back_0 8 rfl rfl)
theorem dX1_back_9 : decode cX1_back 9 = .ok (.invokevirtual 258, 3) := dk_182 1 2 (dk_at dksX1_back_0 9 rfl rfl)
theorem dX1_back_12 : decode cX1_back 12 = .ok (.ireturn, 1) := dk_172 (dk_at dksX1_back_0 12 rfl rfl)
abbrev cX1_ahead : ByteArray := prog_1_method_39_code
def yX1_ahead : MethodName := ⟨RX1, "ahead", "(I)I"⟩
def dkwX1_ahead_0 : List UInt8 := [42, 27, 182, 0, 226, 180, 0, 254, 4, 182, 1, 2, 172]
abbrev dktX1_ahead_0 : List UInt8 := dkwX1_ahead_0 ++ []
theorem dksX1_ahead_0 : cX1_ahead.data.toList.drop 0 = dktX1_ahead_0 := by decide +kernel
theorem dX1_ahead_0 : decode cX1_ahead 0 = .ok (.aload_n 0, 1) := dk_42 (dk_at dksX1_ahead_0 0 rfl rfl)
theorem dX1_ahead_1 : decode cX1_ahead 1 = .ok (.iload_n 1, 1) := dk_27 (dk_at dksX1_ahead_0 1 rfl rfl)
theorem dX1_ahead_2 : decode cX1_ahead 2 = .ok (.invokevirtual 226, 3) := dk_182 0 226 (dk_at dksX1_ahead_0 2 rfl rfl)
theorem dX1_ahead_5 : decode cX1_ahead 5 = .ok (.getfield 254, 3) := dk_180 0 254 (dk_at dksX1_ahead_0 5 rfl rfl)
theorem dX1_ahead_8 : decode cX1_ahead 8 = .ok (.iconst 1, 1) := dk_4 (dk_at dksX1_ahead_0 8 rfl rfl)
theorem dX1_ahead_9 : decode cX1_ahead 9 = .ok (.invokevirtual 258, 3) := dk_182 1 2 (dk_at dksX1_ahead_0 9 rfl rfl)
theorem dX1_ahead_12 : decode cX1_ahead 12 = .ok (.ireturn, 1) := dk_172 (dk_at dksX1_ahead_0 12 rfl rfl)
abbrev cX1_overOrders : ByteArray := prog_1_method_42_code
def yX1_overOrders : MethodName := ⟨RX1, "overOrders", "(III)I"⟩
def dkwX1_overOrders_2 : List UInt8 := [25, 5, 29, 183, 1, 16, 58, 6, 25, 6, 182, 1, 19, 25, 6, 180, 1, 22, 172]
abbrev dktX1_overOrders_2 : List UInt8 := dkwX1_overOrders_2 ++ []
def dkwX1_overOrders_1 : List UInt8 := [182, 1, 11, 16, 120, 163, 0, 7, 4, 167, 0, 4, 3, 184, 0, 92, 187, 1, 14, 89, 42, 25, 4]
abbrev dktX1_overOrders_1 : List UInt8 := dkwX1_overOrders_1 ++ dktX1_overOrders_2
def dkwX1_overOrders_0 : List UInt8 := [42, 27, 182, 0, 226, 58, 4, 42, 28, 182, 0, 178, 58, 5, 29, 3, 5, 184, 0, 65, 184, 0, 69, 42]
abbrev dktX1_overOrders_0 : List UInt8 := dkwX1_overOrders_0 ++ dktX1_overOrders_1
theorem dksX1_overOrders_0 : cX1_overOrders.data.toList.drop 0 = dktX1_overOrders_0 := by decide +kernel
theorem dksX1_overOrders_1 : cX1_overOrders.data.toList.drop 24 = dktX1_overOrders_1 := dk_seg dksX1_overOrders_0 24 rfl rfl
theorem dksX1_overOrders_2 : cX1_overOrders.data.toList.drop 47 = dktX1_overOrders_2 := dk_seg dksX1_overOrders_1 23 rfl rfl
theorem dX1_overOrders_0 : decode cX1_overOrders 0 = .ok (.aload_n 0, 1) := dk_42 (dk_at dksX1_overOrders_0 0 rfl rfl)
theorem dX1_overOrders_1 : decode cX1_overOrders 1 = .ok (.iload_n 1, 1) := dk_27 (dk_at dksX1_overOrders_0 1 rfl rfl)
theorem dX1_overOrders_2 : decode cX1_overOrders 2 = .ok (.invokevirtual 226, 3) := dk_182 0 226 (dk_at dksX1_overOrders_0 2 rfl rfl)
theorem dX1_overOrders_5 : decode cX1_overOrders 5 = .ok (.astore 4, 2) := dk_58 4 (dk_at dksX1_overOrders_0 5 rfl rfl)
theorem dX1_overOrders_7 : decode cX1_overOrders 7 = .ok (.aload_n 0, 1) := dk_42 (dk_at dksX1_overOrders_0 7 rfl rfl)
theorem dX1_overOrders_8 : decode cX1_overOrders 8 = .ok (.iload_n 2, 1) := dk_28 (dk_at dksX1_overOrders_0 8 rfl rfl)
theorem dX1_overOrders_9 : decode cX1_overOrders 9 = .ok (.invokevirtual 178, 3) := dk_182 0 178 (dk_at dksX1_overOrders_0 9 rfl rfl)
theorem dX1_overOrders_12 : decode cX1_overOrders 12 = .ok (.astore 5, 2) := dk_58 5 (dk_at dksX1_overOrders_0 12 rfl rfl)
theorem dX1_overOrders_14 : decode cX1_overOrders 14 = .ok (.iload_n 3, 1) := dk_29 (dk_at dksX1_overOrders_0 14 rfl rfl)
theorem dX1_overOrders_15 : decode cX1_overOrders 15 = .ok (.iconst 0, 1) := dk_3 (dk_at dksX1_overOrders_0 15 rfl rfl)
theorem dX1_overOrders_16 : decode cX1_overOrders 16 = .ok (.iconst 2, 1) := dk_5 (dk_at dksX1_overOrders_0 16 rfl rfl)
theorem dX1_overOrders_17 : decode cX1_overOrders 17 = .ok (.invokestatic 65, 3) := dk_184 0 65 (dk_at dksX1_overOrders_0 17 rfl rfl)
theorem dX1_overOrders_20 : decode cX1_overOrders 20 = .ok (.invokestatic 69, 3) := dk_184 0 69 (dk_at dksX1_overOrders_0 20 rfl rfl)
theorem dX1_overOrders_23 : decode cX1_overOrders 23 = .ok (.aload_n 0, 1) := dk_42 (dk_at dksX1_overOrders_0 23 rfl rfl)
theorem dX1_overOrders_24 : decode cX1_overOrders 24 = .ok (.invokevirtual 267, 3) := dk_182 1 11 (dk_at dksX1_overOrders_1 0 rfl rfl)
theorem dX1_overOrders_27 : decode cX1_overOrders 27 = .ok (.bipush 120, 2) := dk_16 120 (dk_at dksX1_overOrders_1 3 rfl rfl)
theorem dX1_overOrders_29 : decode cX1_overOrders 29 = .ok (.if_icmp .gt 7, 3) := dk_163 0 7 (dk_at dksX1_overOrders_1 5 rfl rfl)
theorem dX1_overOrders_32 : decode cX1_overOrders 32 = .ok (.iconst 1, 1) := dk_4 (dk_at dksX1_overOrders_1 8 rfl rfl)
theorem dX1_overOrders_33 : decode cX1_overOrders 33 = .ok (.goto 4, 3) := dk_167 0 4 (dk_at dksX1_overOrders_1 9 rfl rfl)
theorem dX1_overOrders_36 : decode cX1_overOrders 36 = .ok (.iconst 0, 1) := dk_3 (dk_at dksX1_overOrders_1 12 rfl rfl)
theorem dX1_overOrders_37 : decode cX1_overOrders 37 = .ok (.invokestatic 92, 3) := dk_184 0 92 (dk_at dksX1_overOrders_1 13 rfl rfl)
theorem dX1_overOrders_40 : decode cX1_overOrders 40 = .ok (.new 270, 3) := dk_187 1 14 (dk_at dksX1_overOrders_1 16 rfl rfl)
theorem dX1_overOrders_43 : decode cX1_overOrders 43 = .ok (.dup, 1) := dk_89 (dk_at dksX1_overOrders_1 19 rfl rfl)
theorem dX1_overOrders_44 : decode cX1_overOrders 44 = .ok (.aload_n 0, 1) := dk_42 (dk_at dksX1_overOrders_1 20 rfl rfl)
theorem dX1_overOrders_45 : decode cX1_overOrders 45 = .ok (.aload 4, 2) := dk_25 4 (dk_at dksX1_overOrders_1 21 rfl rfl)
theorem dX1_overOrders_47 : decode cX1_overOrders 47 = .ok (.aload 5, 2) := dk_25 5 (dk_at dksX1_overOrders_2 0 rfl rfl)
theorem dX1_overOrders_49 : decode cX1_overOrders 49 = .ok (.iload_n 3, 1) := dk_29 (dk_at dksX1_overOrders_2 2 rfl rfl)
theorem dX1_overOrders_50 : decode cX1_overOrders 50 = .ok (.invokespecial 272, 3) := dk_183 1 16 (dk_at dksX1_overOrders_2 3 rfl rfl)
theorem dX1_overOrders_53 : decode cX1_overOrders 53 = .ok (.astore 6, 2) := dk_58 6 (dk_at dksX1_overOrders_2 6 rfl rfl)
theorem dX1_overOrders_55 : decode cX1_overOrders 55 = .ok (.aload 6, 2) := dk_25 6 (dk_at dksX1_overOrders_2 8 rfl rfl)
theorem dX1_overOrders_57 : decode cX1_overOrders 57 = .ok (.invokevirtual 275, 3) := dk_182 1 19 (dk_at dksX1_overOrders_2 10 rfl rfl)
theorem dX1_overOrders_60 : decode cX1_overOrders 60 = .ok (.aload 6, 2) := dk_25 6 (dk_at dksX1_overOrders_2 13 rfl rfl)
theorem dX1_overOrders_62 : decode cX1_overOrders 62 = .ok (.getfield 278, 3) := dk_180 1 22 (dk_at dksX1_overOrders_2 15 rfl rfl)
theorem dX1_overOrders_65 : decode cX1_overOrders 65 = .ok (.ireturn, 1) := dk_172 (dk_at dksX1_overOrders_2 18 rfl rfl)
abbrev cX1_explanation : ByteArray := prog_1_method_43_code
def yX1_explanation : MethodName := ⟨RX1, "explanation", "(II)I"⟩
def dkwX1_explanation_0 : List UInt8 := [42, 27, 28, 4, 182, 1, 25, 185, 0, 157, 1, 0, 62, 29, 154, 0, 7, 2, 167, 0, 4, 29, 172]
abbrev dktX1_explanation_0 : List UInt8 := dkwX1_explanation_0 ++ []
theorem dksX1_explanation_0 : cX1_explanation.data.toList.drop 0 = dktX1_explanation_0 := by decide +kernel
theorem dX1_explanation_0 : decode cX1_explanation 0 = .ok (.aload_n 0, 1) := dk_42 (dk_at dksX1_explanation_0 0 rfl rfl)
theorem dX1_explanation_1 : decode cX1_explanation 1 = .ok (.iload_n 1, 1) := dk_27 (dk_at dksX1_explanation_0 1 rfl rfl)
theorem dX1_explanation_2 : decode cX1_explanation 2 = .ok (.iload_n 2, 1) := dk_28 (dk_at dksX1_explanation_0 2 rfl rfl)
theorem dX1_explanation_3 : decode cX1_explanation 3 = .ok (.iconst 1, 1) := dk_4 (dk_at dksX1_explanation_0 3 rfl rfl)
theorem dX1_explanation_4 : decode cX1_explanation 4 = .ok (.invokevirtual 281, 3) := dk_182 1 25 (dk_at dksX1_explanation_0 4 rfl rfl)
theorem dX1_explanation_7 : decode cX1_explanation 7 = .ok (.invokeinterface 157 1, 5) := by decide +kernel
theorem dX1_explanation_12 : decode cX1_explanation 12 = .ok (.istore_n 3, 1) := dk_62 (dk_at dksX1_explanation_0 12 rfl rfl)
theorem dX1_explanation_13 : decode cX1_explanation 13 = .ok (.iload_n 3, 1) := dk_29 (dk_at dksX1_explanation_0 13 rfl rfl)
theorem dX1_explanation_14 : decode cX1_explanation 14 = .ok (.ifCond .ne 7, 3) := dk_154 0 7 (dk_at dksX1_explanation_0 14 rfl rfl)
theorem dX1_explanation_17 : decode cX1_explanation 17 = .ok (.iconst (-1), 1) := dk_2 (dk_at dksX1_explanation_0 17 rfl rfl)
theorem dX1_explanation_18 : decode cX1_explanation 18 = .ok (.goto 4, 3) := dk_167 0 4 (dk_at dksX1_explanation_0 18 rfl rfl)
theorem dX1_explanation_21 : decode cX1_explanation 21 = .ok (.iload_n 3, 1) := dk_29 (dk_at dksX1_explanation_0 21 rfl rfl)
theorem dX1_explanation_22 : decode cX1_explanation 22 = .ok (.ireturn, 1) := dk_172 (dk_at dksX1_explanation_0 22 rfl rfl)
abbrev cX1_setFor : ByteArray := prog_1_method_65_code
def yX1_setFor : MethodName := ⟨RX1, "setFor", "(IIZ)Ljava/util/List;"⟩
def dkwX1_setFor_5 : List UInt8 := [198, 0, 6, 25, 7, 176, 132, 8, 1, 167, 255, 214, 25, 7, 176]
abbrev dktX1_setFor_5 : List UInt8 := dkwX1_setFor_5 ++ []
def dkwX1_setFor_4 : List UInt8 := [163, 0, 34, 21, 6, 153, 0, 29, 42, 25, 4, 25, 5, 29, 25, 7, 3, 21, 8, 182, 1, 83]
abbrev dktX1_setFor_4 : List UInt8 := dkwX1_setFor_4 ++ dktX1_setFor_5
def dkwX1_setFor_3 : List UInt8 := [187, 0, 17, 89, 183, 0, 19, 58, 7, 4, 54, 8, 21, 8, 29, 153, 0, 7, 7, 167, 0, 4, 6]
abbrev dktX1_setFor_3 : List UInt8 := dkwX1_setFor_3 ++ dktX1_setFor_4
def dkwX1_setFor_2 : List UInt8 := [192, 0, 233, 180, 0, 235, 192, 0, 239, 182, 0, 241, 154, 0, 7, 4, 167, 0, 4, 3, 54, 6]
abbrev dktX1_setFor_2 : List UInt8 := dkwX1_setFor_2 ++ dktX1_setFor_3
def dkwX1_setFor_1 : List UInt8 := [16, 16, 163, 0, 7, 4, 167, 0, 4, 3, 184, 0, 92, 25, 4, 180, 0, 230, 28, 185, 0, 175, 2, 0]
abbrev dktX1_setFor_1 : List UInt8 := dkwX1_setFor_1 ++ dktX1_setFor_2
def dkwX1_setFor_0 : List UInt8 := [42, 27, 182, 0, 226, 58, 4, 42, 28, 182, 0, 178, 58, 5, 42, 180, 0, 24, 185, 0, 157, 1, 0]
abbrev dktX1_setFor_0 : List UInt8 := dkwX1_setFor_0 ++ dktX1_setFor_1
theorem dksX1_setFor_0 : cX1_setFor.data.toList.drop 0 = dktX1_setFor_0 := by decide +kernel
theorem dksX1_setFor_1 : cX1_setFor.data.toList.drop 23 = dktX1_setFor_1 := dk_seg dksX1_setFor_0 23 rfl rfl
theorem dksX1_setFor_2 : cX1_setFor.data.toList.drop 47 = dktX1_setFor_2 := dk_seg dksX1_setFor_1 24 rfl rfl
theorem dksX1_setFor_3 : cX1_setFor.data.toList.drop 69 = dktX1_setFor_3 := dk_seg dksX1_setFor_2 22 rfl rfl
theorem dksX1_setFor_4 : cX1_setFor.data.toList.drop 92 = dktX1_setFor_4 := dk_seg dksX1_setFor_3 23 rfl rfl
theorem dksX1_setFor_5 : cX1_setFor.data.toList.drop 114 = dktX1_setFor_5 := dk_seg dksX1_setFor_4 22 rfl rfl
theorem dX1_setFor_0 : decode cX1_setFor 0 = .ok (.aload_n 0, 1) := dk_42 (dk_at dksX1_setFor_0 0 rfl rfl)
theorem dX1_setFor_1 : decode cX1_setFor 1 = .ok (.iload_n 1, 1) := dk_27 (dk_at dksX1_setFor_0 1 rfl rfl)
theorem dX1_setFor_2 : decode cX1_setFor 2 = .ok (.invokevirtual 226, 3) := dk_182 0 226 (dk_at dksX1_setFor_0 2 rfl rfl)
theorem dX1_setFor_5 : decode cX1_setFor 5 = .ok (.astore 4, 2) := dk_58 4 (dk_at dksX1_setFor_0 5 rfl rfl)
theorem dX1_setFor_7 : decode cX1_setFor 7 = .ok (.aload_n 0, 1) := dk_42 (dk_at dksX1_setFor_0 7 rfl rfl)
theorem dX1_setFor_8 : decode cX1_setFor 8 = .ok (.iload_n 2, 1) := dk_28 (dk_at dksX1_setFor_0 8 rfl rfl)
theorem dX1_setFor_9 : decode cX1_setFor 9 = .ok (.invokevirtual 178, 3) := dk_182 0 178 (dk_at dksX1_setFor_0 9 rfl rfl)
theorem dX1_setFor_12 : decode cX1_setFor 12 = .ok (.astore 5, 2) := dk_58 5 (dk_at dksX1_setFor_0 12 rfl rfl)
theorem dX1_setFor_14 : decode cX1_setFor 14 = .ok (.aload_n 0, 1) := dk_42 (dk_at dksX1_setFor_0 14 rfl rfl)
theorem dX1_setFor_15 : decode cX1_setFor 15 = .ok (.getfield 24, 3) := dk_180 0 24 (dk_at dksX1_setFor_0 15 rfl rfl)
theorem dX1_setFor_18 : decode cX1_setFor 18 = .ok (.invokeinterface 157 1, 5) := by decide +kernel
theorem dX1_setFor_23 : decode cX1_setFor 23 = .ok (.bipush 16, 2) := dk_16 16 (dk_at dksX1_setFor_1 0 rfl rfl)
theorem dX1_setFor_25 : decode cX1_setFor 25 = .ok (.if_icmp .gt 7, 3) := dk_163 0 7 (dk_at dksX1_setFor_1 2 rfl rfl)
theorem dX1_setFor_28 : decode cX1_setFor 28 = .ok (.iconst 1, 1) := dk_4 (dk_at dksX1_setFor_1 5 rfl rfl)
theorem dX1_setFor_29 : decode cX1_setFor 29 = .ok (.goto 4, 3) := dk_167 0 4 (dk_at dksX1_setFor_1 6 rfl rfl)
theorem dX1_setFor_32 : decode cX1_setFor 32 = .ok (.iconst 0, 1) := dk_3 (dk_at dksX1_setFor_1 9 rfl rfl)
theorem dX1_setFor_33 : decode cX1_setFor 33 = .ok (.invokestatic 92, 3) := dk_184 0 92 (dk_at dksX1_setFor_1 10 rfl rfl)
theorem dX1_setFor_36 : decode cX1_setFor 36 = .ok (.aload 4, 2) := dk_25 4 (dk_at dksX1_setFor_1 13 rfl rfl)
theorem dX1_setFor_38 : decode cX1_setFor 38 = .ok (.getfield 230, 3) := dk_180 0 230 (dk_at dksX1_setFor_1 15 rfl rfl)
theorem dX1_setFor_41 : decode cX1_setFor 41 = .ok (.iload_n 2, 1) := dk_28 (dk_at dksX1_setFor_1 18 rfl rfl)
theorem dX1_setFor_42 : decode cX1_setFor 42 = .ok (.invokeinterface 175 2, 5) := by decide +kernel
theorem dX1_setFor_47 : decode cX1_setFor 47 = .ok (.checkcast 233, 3) := dk_192 0 233 (dk_at dksX1_setFor_2 0 rfl rfl)
theorem dX1_setFor_50 : decode cX1_setFor 50 = .ok (.getfield 235, 3) := dk_180 0 235 (dk_at dksX1_setFor_2 3 rfl rfl)
theorem dX1_setFor_53 : decode cX1_setFor 53 = .ok (.checkcast 239, 3) := dk_192 0 239 (dk_at dksX1_setFor_2 6 rfl rfl)
theorem dX1_setFor_56 : decode cX1_setFor 56 = .ok (.invokevirtual 241, 3) := dk_182 0 241 (dk_at dksX1_setFor_2 9 rfl rfl)
theorem dX1_setFor_59 : decode cX1_setFor 59 = .ok (.ifCond .ne 7, 3) := dk_154 0 7 (dk_at dksX1_setFor_2 12 rfl rfl)
theorem dX1_setFor_62 : decode cX1_setFor 62 = .ok (.iconst 1, 1) := dk_4 (dk_at dksX1_setFor_2 15 rfl rfl)
theorem dX1_setFor_63 : decode cX1_setFor 63 = .ok (.goto 4, 3) := dk_167 0 4 (dk_at dksX1_setFor_2 16 rfl rfl)
theorem dX1_setFor_66 : decode cX1_setFor 66 = .ok (.iconst 0, 1) := dk_3 (dk_at dksX1_setFor_2 19 rfl rfl)
theorem dX1_setFor_67 : decode cX1_setFor 67 = .ok (.istore 6, 2) := dk_54 6 (dk_at dksX1_setFor_2 20 rfl rfl)
theorem dX1_setFor_69 : decode cX1_setFor 69 = .ok (.new 17, 3) := dk_187 0 17 (dk_at dksX1_setFor_3 0 rfl rfl)
theorem dX1_setFor_72 : decode cX1_setFor 72 = .ok (.dup, 1) := dk_89 (dk_at dksX1_setFor_3 3 rfl rfl)
theorem dX1_setFor_73 : decode cX1_setFor 73 = .ok (.invokespecial 19, 3) := dk_183 0 19 (dk_at dksX1_setFor_3 4 rfl rfl)
theorem dX1_setFor_76 : decode cX1_setFor 76 = .ok (.astore 7, 2) := dk_58 7 (dk_at dksX1_setFor_3 7 rfl rfl)
theorem dX1_setFor_78 : decode cX1_setFor 78 = .ok (.iconst 1, 1) := dk_4 (dk_at dksX1_setFor_3 9 rfl rfl)
theorem dX1_setFor_79 : decode cX1_setFor 79 = .ok (.istore 8, 2) := dk_54 8 (dk_at dksX1_setFor_3 10 rfl rfl)
theorem dX1_setFor_81 : decode cX1_setFor 81 = .ok (.iload 8, 2) := dk_21 8 (dk_at dksX1_setFor_3 12 rfl rfl)
theorem dX1_setFor_83 : decode cX1_setFor 83 = .ok (.iload_n 3, 1) := dk_29 (dk_at dksX1_setFor_3 14 rfl rfl)
theorem dX1_setFor_84 : decode cX1_setFor 84 = .ok (.ifCond .eq 7, 3) := dk_153 0 7 (dk_at dksX1_setFor_3 15 rfl rfl)
theorem dX1_setFor_87 : decode cX1_setFor 87 = .ok (.iconst 4, 1) := dk_7 (dk_at dksX1_setFor_3 18 rfl rfl)
theorem dX1_setFor_88 : decode cX1_setFor 88 = .ok (.goto 4, 3) := dk_167 0 4 (dk_at dksX1_setFor_3 19 rfl rfl)
theorem dX1_setFor_91 : decode cX1_setFor 91 = .ok (.iconst 3, 1) := dk_6 (dk_at dksX1_setFor_3 22 rfl rfl)
theorem dX1_setFor_92 : decode cX1_setFor 92 = .ok (.if_icmp .gt 34, 3) := dk_163 0 34 (dk_at dksX1_setFor_4 0 rfl rfl)
theorem dX1_setFor_95 : decode cX1_setFor 95 = .ok (.iload 6, 2) := dk_21 6 (dk_at dksX1_setFor_4 3 rfl rfl)
theorem dX1_setFor_97 : decode cX1_setFor 97 = .ok (.ifCond .eq 29, 3) := dk_153 0 29 (dk_at dksX1_setFor_4 5 rfl rfl)
theorem dX1_setFor_100 : decode cX1_setFor 100 = .ok (.aload_n 0, 1) := dk_42 (dk_at dksX1_setFor_4 8 rfl rfl)
theorem dX1_setFor_101 : decode cX1_setFor 101 = .ok (.aload 4, 2) := dk_25 4 (dk_at dksX1_setFor_4 9 rfl rfl)
theorem dX1_setFor_103 : decode cX1_setFor 103 = .ok (.aload 5, 2) := dk_25 5 (dk_at dksX1_setFor_4 11 rfl rfl)
theorem dX1_setFor_105 : decode cX1_setFor 105 = .ok (.iload_n 3, 1) := dk_29 (dk_at dksX1_setFor_4 13 rfl rfl)
theorem dX1_setFor_106 : decode cX1_setFor 106 = .ok (.aload 7, 2) := dk_25 7 (dk_at dksX1_setFor_4 14 rfl rfl)
theorem dX1_setFor_108 : decode cX1_setFor 108 = .ok (.iconst 0, 1) := dk_3 (dk_at dksX1_setFor_4 16 rfl rfl)
theorem dX1_setFor_109 : decode cX1_setFor 109 = .ok (.iload 8, 2) := dk_21 8 (dk_at dksX1_setFor_4 17 rfl rfl)
theorem dX1_setFor_111 : decode cX1_setFor 111 = .ok (.invokevirtual 339, 3) := dk_182 1 83 (dk_at dksX1_setFor_4 19 rfl rfl)
theorem dX1_setFor_114 : decode cX1_setFor 114 = .ok (.ifnull 6, 3) := dk_198 0 6 (dk_at dksX1_setFor_5 0 rfl rfl)
theorem dX1_setFor_117 : decode cX1_setFor 117 = .ok (.aload 7, 2) := dk_25 7 (dk_at dksX1_setFor_5 3 rfl rfl)
theorem dX1_setFor_119 : decode cX1_setFor 119 = .ok (.areturn, 1) := dk_176 (dk_at dksX1_setFor_5 5 rfl rfl)
theorem dX1_setFor_120 : decode cX1_setFor 120 = .ok (.iinc 8 1, 3) := dk_132 8 1 (dk_at dksX1_setFor_5 6 rfl rfl)
theorem dX1_setFor_123 : decode cX1_setFor 123 = .ok (.goto (-42), 3) := dk_167 255 214 (dk_at dksX1_setFor_5 9 rfl rfl)
theorem dX1_setFor_126 : decode cX1_setFor 126 = .ok (.aload 7, 2) := dk_25 7 (dk_at dksX1_setFor_5 12 rfl rfl)
theorem dX1_setFor_128 : decode cX1_setFor 128 = .ok (.areturn, 1) := dk_176 (dk_at dksX1_setFor_5 14 rfl rfl)
abbrev cX1_choose : ByteArray := prog_1_method_66_code
def yX1_choose : MethodName := ⟨RX1, "choose", "(LLogGrammar$Monitor;LLogGrammar$Event;ZLjava/util/List;II)Ljava/util/List;"⟩
def dkwX1_choose_4 : List UInt8 := [25, 4, 185, 0, 157, 1, 0, 4, 100, 185, 0, 165, 2, 0, 87, 132, 7, 1, 167, 255, 179, 1, 176]
abbrev dktX1_choose_4 : List UInt8 := dkwX1_choose_4 ++ []
def dkwX1_choose_3 : List UInt8 := [87, 42, 43, 44, 29, 25, 4, 21, 7, 4, 96, 21, 6, 182, 1, 83, 198, 0, 6, 25, 4, 176, 25, 4]
abbrev dktX1_choose_3 : List UInt8 := dkwX1_choose_3 ++ dktX1_choose_4
def dkwX1_choose_2 : List UInt8 := [162, 0, 69, 25, 4, 42, 180, 0, 24, 21, 7, 185, 0, 175, 2, 0, 192, 0, 81, 185, 0, 51, 2, 0]
abbrev dktX1_choose_2 : List UInt8 := dkwX1_choose_2 ++ dktX1_choose_3
def dkwX1_choose_1 : List UInt8 := [25, 4, 167, 0, 4, 1, 176, 21, 5, 54, 7, 21, 7, 42, 180, 0, 24, 185, 0, 157, 1, 0]
abbrev dktX1_choose_1 : List UInt8 := dkwX1_choose_1 ++ dktX1_choose_2
def dkwX1_choose_0 : List UInt8 := [25, 4, 185, 0, 157, 1, 0, 21, 6, 160, 0, 22, 42, 43, 44, 29, 25, 4, 182, 1, 87, 153, 0, 8]
abbrev dktX1_choose_0 : List UInt8 := dkwX1_choose_0 ++ dktX1_choose_1
theorem dksX1_choose_0 : cX1_choose.data.toList.drop 0 = dktX1_choose_0 := by decide +kernel
theorem dksX1_choose_1 : cX1_choose.data.toList.drop 24 = dktX1_choose_1 := dk_seg dksX1_choose_0 24 rfl rfl
theorem dksX1_choose_2 : cX1_choose.data.toList.drop 46 = dktX1_choose_2 := dk_seg dksX1_choose_1 22 rfl rfl
theorem dksX1_choose_3 : cX1_choose.data.toList.drop 70 = dktX1_choose_3 := dk_seg dksX1_choose_2 24 rfl rfl
theorem dksX1_choose_4 : cX1_choose.data.toList.drop 94 = dktX1_choose_4 := dk_seg dksX1_choose_3 24 rfl rfl
theorem dX1_choose_0 : decode cX1_choose 0 = .ok (.aload 4, 2) := dk_25 4 (dk_at dksX1_choose_0 0 rfl rfl)
theorem dX1_choose_2 : decode cX1_choose 2 = .ok (.invokeinterface 157 1, 5) := by decide +kernel
theorem dX1_choose_7 : decode cX1_choose 7 = .ok (.iload 6, 2) := dk_21 6 (dk_at dksX1_choose_0 7 rfl rfl)
theorem dX1_choose_9 : decode cX1_choose 9 = .ok (.if_icmp .ne 22, 3) := dk_160 0 22 (dk_at dksX1_choose_0 9 rfl rfl)
theorem dX1_choose_12 : decode cX1_choose 12 = .ok (.aload_n 0, 1) := dk_42 (dk_at dksX1_choose_0 12 rfl rfl)
theorem dX1_choose_13 : decode cX1_choose 13 = .ok (.aload_n 1, 1) := dk_43 (dk_at dksX1_choose_0 13 rfl rfl)
theorem dX1_choose_14 : decode cX1_choose 14 = .ok (.aload_n 2, 1) := dk_44 (dk_at dksX1_choose_0 14 rfl rfl)
theorem dX1_choose_15 : decode cX1_choose 15 = .ok (.iload_n 3, 1) := dk_29 (dk_at dksX1_choose_0 15 rfl rfl)
theorem dX1_choose_16 : decode cX1_choose 16 = .ok (.aload 4, 2) := dk_25 4 (dk_at dksX1_choose_0 16 rfl rfl)
theorem dX1_choose_18 : decode cX1_choose 18 = .ok (.invokevirtual 343, 3) := dk_182 1 87 (dk_at dksX1_choose_0 18 rfl rfl)
theorem dX1_choose_21 : decode cX1_choose 21 = .ok (.ifCond .eq 8, 3) := dk_153 0 8 (dk_at dksX1_choose_0 21 rfl rfl)
theorem dX1_choose_24 : decode cX1_choose 24 = .ok (.aload 4, 2) := dk_25 4 (dk_at dksX1_choose_1 0 rfl rfl)
theorem dX1_choose_26 : decode cX1_choose 26 = .ok (.goto 4, 3) := dk_167 0 4 (dk_at dksX1_choose_1 2 rfl rfl)
theorem dX1_choose_29 : decode cX1_choose 29 = .ok (.aconst_null, 1) := dk_1 (dk_at dksX1_choose_1 5 rfl rfl)
theorem dX1_choose_30 : decode cX1_choose 30 = .ok (.areturn, 1) := dk_176 (dk_at dksX1_choose_1 6 rfl rfl)
theorem dX1_choose_31 : decode cX1_choose 31 = .ok (.iload 5, 2) := dk_21 5 (dk_at dksX1_choose_1 7 rfl rfl)
theorem dX1_choose_33 : decode cX1_choose 33 = .ok (.istore 7, 2) := dk_54 7 (dk_at dksX1_choose_1 9 rfl rfl)
theorem dX1_choose_35 : decode cX1_choose 35 = .ok (.iload 7, 2) := dk_21 7 (dk_at dksX1_choose_1 11 rfl rfl)
theorem dX1_choose_37 : decode cX1_choose 37 = .ok (.aload_n 0, 1) := dk_42 (dk_at dksX1_choose_1 13 rfl rfl)
theorem dX1_choose_38 : decode cX1_choose 38 = .ok (.getfield 24, 3) := dk_180 0 24 (dk_at dksX1_choose_1 14 rfl rfl)
theorem dX1_choose_41 : decode cX1_choose 41 = .ok (.invokeinterface 157 1, 5) := by decide +kernel
theorem dX1_choose_46 : decode cX1_choose 46 = .ok (.if_icmp .ge 69, 3) := dk_162 0 69 (dk_at dksX1_choose_2 0 rfl rfl)
theorem dX1_choose_49 : decode cX1_choose 49 = .ok (.aload 4, 2) := dk_25 4 (dk_at dksX1_choose_2 3 rfl rfl)
theorem dX1_choose_51 : decode cX1_choose 51 = .ok (.aload_n 0, 1) := dk_42 (dk_at dksX1_choose_2 5 rfl rfl)
theorem dX1_choose_52 : decode cX1_choose 52 = .ok (.getfield 24, 3) := dk_180 0 24 (dk_at dksX1_choose_2 6 rfl rfl)
theorem dX1_choose_55 : decode cX1_choose 55 = .ok (.iload 7, 2) := dk_21 7 (dk_at dksX1_choose_2 9 rfl rfl)
theorem dX1_choose_57 : decode cX1_choose 57 = .ok (.invokeinterface 175 2, 5) := by decide +kernel
theorem dX1_choose_62 : decode cX1_choose 62 = .ok (.checkcast 81, 3) := dk_192 0 81 (dk_at dksX1_choose_2 16 rfl rfl)
theorem dX1_choose_65 : decode cX1_choose 65 = .ok (.invokeinterface 51 2, 5) := by decide +kernel
theorem dX1_choose_70 : decode cX1_choose 70 = .ok (.pop, 1) := dk_87 (dk_at dksX1_choose_3 0 rfl rfl)
theorem dX1_choose_71 : decode cX1_choose 71 = .ok (.aload_n 0, 1) := dk_42 (dk_at dksX1_choose_3 1 rfl rfl)
theorem dX1_choose_72 : decode cX1_choose 72 = .ok (.aload_n 1, 1) := dk_43 (dk_at dksX1_choose_3 2 rfl rfl)
theorem dX1_choose_73 : decode cX1_choose 73 = .ok (.aload_n 2, 1) := dk_44 (dk_at dksX1_choose_3 3 rfl rfl)
theorem dX1_choose_74 : decode cX1_choose 74 = .ok (.iload_n 3, 1) := dk_29 (dk_at dksX1_choose_3 4 rfl rfl)
theorem dX1_choose_75 : decode cX1_choose 75 = .ok (.aload 4, 2) := dk_25 4 (dk_at dksX1_choose_3 5 rfl rfl)
theorem dX1_choose_77 : decode cX1_choose 77 = .ok (.iload 7, 2) := dk_21 7 (dk_at dksX1_choose_3 7 rfl rfl)
theorem dX1_choose_79 : decode cX1_choose 79 = .ok (.iconst 1, 1) := dk_4 (dk_at dksX1_choose_3 9 rfl rfl)
theorem dX1_choose_80 : decode cX1_choose 80 = .ok (.iadd, 1) := dk_96 (dk_at dksX1_choose_3 10 rfl rfl)
theorem dX1_choose_81 : decode cX1_choose 81 = .ok (.iload 6, 2) := dk_21 6 (dk_at dksX1_choose_3 11 rfl rfl)
theorem dX1_choose_83 : decode cX1_choose 83 = .ok (.invokevirtual 339, 3) := dk_182 1 83 (dk_at dksX1_choose_3 13 rfl rfl)
theorem dX1_choose_86 : decode cX1_choose 86 = .ok (.ifnull 6, 3) := dk_198 0 6 (dk_at dksX1_choose_3 16 rfl rfl)
theorem dX1_choose_89 : decode cX1_choose 89 = .ok (.aload 4, 2) := dk_25 4 (dk_at dksX1_choose_3 19 rfl rfl)
theorem dX1_choose_91 : decode cX1_choose 91 = .ok (.areturn, 1) := dk_176 (dk_at dksX1_choose_3 21 rfl rfl)
theorem dX1_choose_92 : decode cX1_choose 92 = .ok (.aload 4, 2) := dk_25 4 (dk_at dksX1_choose_3 22 rfl rfl)
theorem dX1_choose_94 : decode cX1_choose 94 = .ok (.aload 4, 2) := dk_25 4 (dk_at dksX1_choose_4 0 rfl rfl)
theorem dX1_choose_96 : decode cX1_choose 96 = .ok (.invokeinterface 157 1, 5) := by decide +kernel
theorem dX1_choose_101 : decode cX1_choose 101 = .ok (.iconst 1, 1) := dk_4 (dk_at dksX1_choose_4 7 rfl rfl)
theorem dX1_choose_102 : decode cX1_choose 102 = .ok (.isub, 1) := dk_100 (dk_at dksX1_choose_4 8 rfl rfl)
theorem dX1_choose_103 : decode cX1_choose 103 = .ok (.invokeinterface 165 2, 5) := by decide +kernel
theorem dX1_choose_108 : decode cX1_choose 108 = .ok (.pop, 1) := dk_87 (dk_at dksX1_choose_4 14 rfl rfl)
theorem dX1_choose_109 : decode cX1_choose 109 = .ok (.iinc 7 1, 3) := dk_132 7 1 (dk_at dksX1_choose_4 15 rfl rfl)
theorem dX1_choose_112 : decode cX1_choose 112 = .ok (.goto (-77), 3) := dk_167 255 179 (dk_at dksX1_choose_4 18 rfl rfl)
theorem dX1_choose_115 : decode cX1_choose 115 = .ok (.aconst_null, 1) := dk_1 (dk_at dksX1_choose_4 21 rfl rfl)
theorem dX1_choose_116 : decode cX1_choose 116 = .ok (.areturn, 1) := dk_176 (dk_at dksX1_choose_4 22 rfl rfl)
abbrev cX1_does : ByteArray := prog_1_method_67_code
def yX1_does : MethodName := ⟨RX1, "does", "(LLogGrammar$Monitor;LLogGrammar$Event;ZLjava/util/List;)Z"⟩
def dkwX1_does_5 : List UInt8 := [154, 0, 7, 4, 167, 0, 4, 3, 29, 160, 0, 7, 4, 167, 0, 4, 3, 172]
abbrev dktX1_does_5 : List UInt8 := dkwX1_does_5 ++ []
def dkwX1_does_4 : List UInt8 := [167, 255, 190, 43, 44, 29, 153, 0, 8, 25, 4, 167, 0, 7, 42, 180, 0, 43, 3, 182, 0, 244]
abbrev dktX1_does_4 : List UInt8 := dkwX1_does_4 ++ dktX1_does_5
def dkwX1_does_3 : List UInt8 := [180, 0, 24, 21, 5, 185, 0, 175, 2, 0, 192, 0, 81, 185, 0, 51, 2, 0, 87, 132, 5, 1]
abbrev dktX1_does_3 : List UInt8 := dkwX1_does_3 ++ dktX1_does_4
def dkwX1_does_2 : List UInt8 := [180, 0, 24, 21, 5, 185, 0, 175, 2, 0, 185, 1, 91, 2, 0, 154, 0, 27, 42, 180, 0, 43, 42]
abbrev dktX1_does_2 : List UInt8 := dkwX1_does_2 ++ dktX1_does_3
def dkwX1_does_1 : List UInt8 := [54, 5, 21, 5, 42, 180, 0, 24, 185, 0, 157, 1, 0, 162, 0, 58, 29, 154, 0, 54, 25, 4, 42]
abbrev dktX1_does_1 : List UInt8 := dkwX1_does_1 ++ dktX1_does_2
def dkwX1_does_0 : List UInt8 := [25, 4, 44, 185, 1, 91, 2, 0, 29, 159, 0, 5, 3, 172, 42, 180, 0, 43, 185, 0, 160, 1, 0, 3]
abbrev dktX1_does_0 : List UInt8 := dkwX1_does_0 ++ dktX1_does_1
theorem dksX1_does_0 : cX1_does.data.toList.drop 0 = dktX1_does_0 := by decide +kernel
theorem dksX1_does_1 : cX1_does.data.toList.drop 24 = dktX1_does_1 := dk_seg dksX1_does_0 24 rfl rfl
theorem dksX1_does_2 : cX1_does.data.toList.drop 47 = dktX1_does_2 := dk_seg dksX1_does_1 23 rfl rfl
theorem dksX1_does_3 : cX1_does.data.toList.drop 70 = dktX1_does_3 := dk_seg dksX1_does_2 23 rfl rfl
theorem dksX1_does_4 : cX1_does.data.toList.drop 92 = dktX1_does_4 := dk_seg dksX1_does_3 22 rfl rfl
theorem dksX1_does_5 : cX1_does.data.toList.drop 114 = dktX1_does_5 := dk_seg dksX1_does_4 22 rfl rfl
theorem dX1_does_0 : decode cX1_does 0 = .ok (.aload 4, 2) := dk_25 4 (dk_at dksX1_does_0 0 rfl rfl)
theorem dX1_does_2 : decode cX1_does 2 = .ok (.aload_n 2, 1) := dk_44 (dk_at dksX1_does_0 2 rfl rfl)
theorem dX1_does_3 : decode cX1_does 3 = .ok (.invokeinterface 347 2, 5) := by decide +kernel
theorem dX1_does_8 : decode cX1_does 8 = .ok (.iload_n 3, 1) := dk_29 (dk_at dksX1_does_0 8 rfl rfl)
theorem dX1_does_9 : decode cX1_does 9 = .ok (.if_icmp .eq 5, 3) := dk_159 0 5 (dk_at dksX1_does_0 9 rfl rfl)
theorem dX1_does_12 : decode cX1_does 12 = .ok (.iconst 0, 1) := dk_3 (dk_at dksX1_does_0 12 rfl rfl)
theorem dX1_does_13 : decode cX1_does 13 = .ok (.ireturn, 1) := dk_172 (dk_at dksX1_does_0 13 rfl rfl)
theorem dX1_does_14 : decode cX1_does 14 = .ok (.aload_n 0, 1) := dk_42 (dk_at dksX1_does_0 14 rfl rfl)
theorem dX1_does_15 : decode cX1_does 15 = .ok (.getfield 43, 3) := dk_180 0 43 (dk_at dksX1_does_0 15 rfl rfl)
theorem dX1_does_18 : decode cX1_does 18 = .ok (.invokeinterface 160 1, 5) := by decide +kernel
theorem dX1_does_23 : decode cX1_does 23 = .ok (.iconst 0, 1) := dk_3 (dk_at dksX1_does_0 23 rfl rfl)
theorem dX1_does_24 : decode cX1_does 24 = .ok (.istore 5, 2) := dk_54 5 (dk_at dksX1_does_1 0 rfl rfl)
theorem dX1_does_26 : decode cX1_does 26 = .ok (.iload 5, 2) := dk_21 5 (dk_at dksX1_does_1 2 rfl rfl)
theorem dX1_does_28 : decode cX1_does 28 = .ok (.aload_n 0, 1) := dk_42 (dk_at dksX1_does_1 4 rfl rfl)
theorem dX1_does_29 : decode cX1_does 29 = .ok (.getfield 24, 3) := dk_180 0 24 (dk_at dksX1_does_1 5 rfl rfl)
theorem dX1_does_32 : decode cX1_does 32 = .ok (.invokeinterface 157 1, 5) := by decide +kernel
theorem dX1_does_37 : decode cX1_does 37 = .ok (.if_icmp .ge 58, 3) := dk_162 0 58 (dk_at dksX1_does_1 13 rfl rfl)
theorem dX1_does_40 : decode cX1_does 40 = .ok (.iload_n 3, 1) := dk_29 (dk_at dksX1_does_1 16 rfl rfl)
theorem dX1_does_41 : decode cX1_does 41 = .ok (.ifCond .ne 54, 3) := dk_154 0 54 (dk_at dksX1_does_1 17 rfl rfl)
theorem dX1_does_44 : decode cX1_does 44 = .ok (.aload 4, 2) := dk_25 4 (dk_at dksX1_does_1 20 rfl rfl)
theorem dX1_does_46 : decode cX1_does 46 = .ok (.aload_n 0, 1) := dk_42 (dk_at dksX1_does_1 22 rfl rfl)
theorem dX1_does_47 : decode cX1_does 47 = .ok (.getfield 24, 3) := dk_180 0 24 (dk_at dksX1_does_2 0 rfl rfl)
theorem dX1_does_50 : decode cX1_does 50 = .ok (.iload 5, 2) := dk_21 5 (dk_at dksX1_does_2 3 rfl rfl)
theorem dX1_does_52 : decode cX1_does 52 = .ok (.invokeinterface 175 2, 5) := by decide +kernel
theorem dX1_does_57 : decode cX1_does 57 = .ok (.invokeinterface 347 2, 5) := by decide +kernel
theorem dX1_does_62 : decode cX1_does 62 = .ok (.ifCond .ne 27, 3) := dk_154 0 27 (dk_at dksX1_does_2 15 rfl rfl)
theorem dX1_does_65 : decode cX1_does 65 = .ok (.aload_n 0, 1) := dk_42 (dk_at dksX1_does_2 18 rfl rfl)
theorem dX1_does_66 : decode cX1_does 66 = .ok (.getfield 43, 3) := dk_180 0 43 (dk_at dksX1_does_2 19 rfl rfl)
theorem dX1_does_69 : decode cX1_does 69 = .ok (.aload_n 0, 1) := dk_42 (dk_at dksX1_does_2 22 rfl rfl)
theorem dX1_does_70 : decode cX1_does 70 = .ok (.getfield 24, 3) := dk_180 0 24 (dk_at dksX1_does_3 0 rfl rfl)
theorem dX1_does_73 : decode cX1_does 73 = .ok (.iload 5, 2) := dk_21 5 (dk_at dksX1_does_3 3 rfl rfl)
theorem dX1_does_75 : decode cX1_does 75 = .ok (.invokeinterface 175 2, 5) := by decide +kernel
theorem dX1_does_80 : decode cX1_does 80 = .ok (.checkcast 81, 3) := dk_192 0 81 (dk_at dksX1_does_3 10 rfl rfl)
theorem dX1_does_83 : decode cX1_does 83 = .ok (.invokeinterface 51 2, 5) := by decide +kernel
theorem dX1_does_88 : decode cX1_does 88 = .ok (.pop, 1) := dk_87 (dk_at dksX1_does_3 18 rfl rfl)
theorem dX1_does_89 : decode cX1_does 89 = .ok (.iinc 5 1, 3) := dk_132 5 1 (dk_at dksX1_does_3 19 rfl rfl)
theorem dX1_does_92 : decode cX1_does 92 = .ok (.goto (-66), 3) := dk_167 255 190 (dk_at dksX1_does_4 0 rfl rfl)
theorem dX1_does_95 : decode cX1_does 95 = .ok (.aload_n 1, 1) := dk_43 (dk_at dksX1_does_4 3 rfl rfl)
theorem dX1_does_96 : decode cX1_does 96 = .ok (.aload_n 2, 1) := dk_44 (dk_at dksX1_does_4 4 rfl rfl)
theorem dX1_does_97 : decode cX1_does 97 = .ok (.iload_n 3, 1) := dk_29 (dk_at dksX1_does_4 5 rfl rfl)
theorem dX1_does_98 : decode cX1_does 98 = .ok (.ifCond .eq 8, 3) := dk_153 0 8 (dk_at dksX1_does_4 6 rfl rfl)
theorem dX1_does_101 : decode cX1_does 101 = .ok (.aload 4, 2) := dk_25 4 (dk_at dksX1_does_4 9 rfl rfl)
theorem dX1_does_103 : decode cX1_does 103 = .ok (.goto 7, 3) := dk_167 0 7 (dk_at dksX1_does_4 11 rfl rfl)
theorem dX1_does_106 : decode cX1_does 106 = .ok (.aload_n 0, 1) := dk_42 (dk_at dksX1_does_4 14 rfl rfl)
theorem dX1_does_107 : decode cX1_does 107 = .ok (.getfield 43, 3) := dk_180 0 43 (dk_at dksX1_does_4 15 rfl rfl)
theorem dX1_does_110 : decode cX1_does 110 = .ok (.iconst 0, 1) := dk_3 (dk_at dksX1_does_4 18 rfl rfl)
theorem dX1_does_111 : decode cX1_does 111 = .ok (.invokevirtual 244, 3) := dk_182 0 244 (dk_at dksX1_does_4 19 rfl rfl)
theorem dX1_does_114 : decode cX1_does 114 = .ok (.ifCond .ne 7, 3) := dk_154 0 7 (dk_at dksX1_does_5 0 rfl rfl)
theorem dX1_does_117 : decode cX1_does 117 = .ok (.iconst 1, 1) := dk_4 (dk_at dksX1_does_5 3 rfl rfl)
theorem dX1_does_118 : decode cX1_does 118 = .ok (.goto 4, 3) := dk_167 0 4 (dk_at dksX1_does_5 4 rfl rfl)
theorem dX1_does_121 : decode cX1_does 121 = .ok (.iconst 0, 1) := dk_3 (dk_at dksX1_does_5 7 rfl rfl)
theorem dX1_does_122 : decode cX1_does 122 = .ok (.iload_n 3, 1) := dk_29 (dk_at dksX1_does_5 8 rfl rfl)
theorem dX1_does_123 : decode cX1_does 123 = .ok (.if_icmp .ne 7, 3) := dk_160 0 7 (dk_at dksX1_does_5 9 rfl rfl)
theorem dX1_does_126 : decode cX1_does 126 = .ok (.iconst 1, 1) := dk_4 (dk_at dksX1_does_5 12 rfl rfl)
theorem dX1_does_127 : decode cX1_does 127 = .ok (.goto 4, 3) := dk_167 0 4 (dk_at dksX1_does_5 13 rfl rfl)
theorem dX1_does_130 : decode cX1_does 130 = .ok (.iconst 0, 1) := dk_3 (dk_at dksX1_does_5 16 rfl rfl)
theorem dX1_does_131 : decode cX1_does 131 = .ok (.ireturn, 1) := dk_172 (dk_at dksX1_does_5 17 rfl rfl)
abbrev cX1_explainedBy : ByteArray := prog_1_method_44_code
def yX1_explainedBy : MethodName := ⟨RX1, "explainedBy", "(III)I"⟩
def dkwX1_explainedBy_1 : List UInt8 := [153, 0, 20, 25, 4, 29, 185, 0, 175, 2, 0, 192, 0, 81, 180, 0, 80, 167, 0, 4, 2, 172]
abbrev dktX1_explainedBy_1 : List UInt8 := dkwX1_explainedBy_1 ++ []
def dkwX1_explainedBy_0 : List UInt8 := [42, 27, 28, 4, 182, 1, 25, 58, 4, 29, 3, 25, 4, 185, 0, 157, 1, 0, 4, 100, 184, 0, 65]
abbrev dktX1_explainedBy_0 : List UInt8 := dkwX1_explainedBy_0 ++ dktX1_explainedBy_1
theorem dksX1_explainedBy_0 : cX1_explainedBy.data.toList.drop 0 = dktX1_explainedBy_0 := by decide +kernel
theorem dksX1_explainedBy_1 : cX1_explainedBy.data.toList.drop 23 = dktX1_explainedBy_1 := dk_seg dksX1_explainedBy_0 23 rfl rfl
theorem dX1_explainedBy_0 : decode cX1_explainedBy 0 = .ok (.aload_n 0, 1) := dk_42 (dk_at dksX1_explainedBy_0 0 rfl rfl)
theorem dX1_explainedBy_1 : decode cX1_explainedBy 1 = .ok (.iload_n 1, 1) := dk_27 (dk_at dksX1_explainedBy_0 1 rfl rfl)
theorem dX1_explainedBy_2 : decode cX1_explainedBy 2 = .ok (.iload_n 2, 1) := dk_28 (dk_at dksX1_explainedBy_0 2 rfl rfl)
theorem dX1_explainedBy_3 : decode cX1_explainedBy 3 = .ok (.iconst 1, 1) := dk_4 (dk_at dksX1_explainedBy_0 3 rfl rfl)
theorem dX1_explainedBy_4 : decode cX1_explainedBy 4 = .ok (.invokevirtual 281, 3) := dk_182 1 25 (dk_at dksX1_explainedBy_0 4 rfl rfl)
theorem dX1_explainedBy_7 : decode cX1_explainedBy 7 = .ok (.astore 4, 2) := dk_58 4 (dk_at dksX1_explainedBy_0 7 rfl rfl)
theorem dX1_explainedBy_9 : decode cX1_explainedBy 9 = .ok (.iload_n 3, 1) := dk_29 (dk_at dksX1_explainedBy_0 9 rfl rfl)
theorem dX1_explainedBy_10 : decode cX1_explainedBy 10 = .ok (.iconst 0, 1) := dk_3 (dk_at dksX1_explainedBy_0 10 rfl rfl)
theorem dX1_explainedBy_11 : decode cX1_explainedBy 11 = .ok (.aload 4, 2) := dk_25 4 (dk_at dksX1_explainedBy_0 11 rfl rfl)
theorem dX1_explainedBy_13 : decode cX1_explainedBy 13 = .ok (.invokeinterface 157 1, 5) := by decide +kernel
theorem dX1_explainedBy_18 : decode cX1_explainedBy 18 = .ok (.iconst 1, 1) := dk_4 (dk_at dksX1_explainedBy_0 18 rfl rfl)
theorem dX1_explainedBy_19 : decode cX1_explainedBy 19 = .ok (.isub, 1) := dk_100 (dk_at dksX1_explainedBy_0 19 rfl rfl)
theorem dX1_explainedBy_20 : decode cX1_explainedBy 20 = .ok (.invokestatic 65, 3) := dk_184 0 65 (dk_at dksX1_explainedBy_0 20 rfl rfl)
theorem dX1_explainedBy_23 : decode cX1_explainedBy 23 = .ok (.ifCond .eq 20, 3) := dk_153 0 20 (dk_at dksX1_explainedBy_1 0 rfl rfl)
theorem dX1_explainedBy_26 : decode cX1_explainedBy 26 = .ok (.aload 4, 2) := dk_25 4 (dk_at dksX1_explainedBy_1 3 rfl rfl)
theorem dX1_explainedBy_28 : decode cX1_explainedBy 28 = .ok (.iload_n 3, 1) := dk_29 (dk_at dksX1_explainedBy_1 5 rfl rfl)
theorem dX1_explainedBy_29 : decode cX1_explainedBy 29 = .ok (.invokeinterface 175 2, 5) := by decide +kernel
theorem dX1_explainedBy_34 : decode cX1_explainedBy 34 = .ok (.checkcast 81, 3) := dk_192 0 81 (dk_at dksX1_explainedBy_1 11 rfl rfl)
theorem dX1_explainedBy_37 : decode cX1_explainedBy 37 = .ok (.getfield 80, 3) := dk_180 0 80 (dk_at dksX1_explainedBy_1 14 rfl rfl)
theorem dX1_explainedBy_40 : decode cX1_explainedBy 40 = .ok (.goto 4, 3) := dk_167 0 4 (dk_at dksX1_explainedBy_1 17 rfl rfl)
theorem dX1_explainedBy_43 : decode cX1_explainedBy 43 = .ok (.iconst (-1), 1) := dk_2 (dk_at dksX1_explainedBy_1 20 rfl rfl)
theorem dX1_explainedBy_44 : decode cX1_explainedBy 44 = .ok (.ireturn, 1) := dk_172 (dk_at dksX1_explainedBy_1 21 rfl rfl)
abbrev cX1_mend : ByteArray := prog_1_method_45_code
def yX1_mend : MethodName := ⟨RX1, "mend", "(II)I"⟩
def dkwX1_mend_0 : List UInt8 := [42, 27, 28, 3, 182, 1, 25, 185, 0, 157, 1, 0, 62, 29, 154, 0, 7, 2, 167, 0, 4, 29, 172]
abbrev dktX1_mend_0 : List UInt8 := dkwX1_mend_0 ++ []
theorem dksX1_mend_0 : cX1_mend.data.toList.drop 0 = dktX1_mend_0 := by decide +kernel
theorem dX1_mend_0 : decode cX1_mend 0 = .ok (.aload_n 0, 1) := dk_42 (dk_at dksX1_mend_0 0 rfl rfl)
theorem dX1_mend_1 : decode cX1_mend 1 = .ok (.iload_n 1, 1) := dk_27 (dk_at dksX1_mend_0 1 rfl rfl)
theorem dX1_mend_2 : decode cX1_mend 2 = .ok (.iload_n 2, 1) := dk_28 (dk_at dksX1_mend_0 2 rfl rfl)
theorem dX1_mend_3 : decode cX1_mend 3 = .ok (.iconst 0, 1) := dk_3 (dk_at dksX1_mend_0 3 rfl rfl)
theorem dX1_mend_4 : decode cX1_mend 4 = .ok (.invokevirtual 281, 3) := dk_182 1 25 (dk_at dksX1_mend_0 4 rfl rfl)
theorem dX1_mend_7 : decode cX1_mend 7 = .ok (.invokeinterface 157 1, 5) := by decide +kernel
theorem dX1_mend_12 : decode cX1_mend 12 = .ok (.istore_n 3, 1) := dk_62 (dk_at dksX1_mend_0 12 rfl rfl)
theorem dX1_mend_13 : decode cX1_mend 13 = .ok (.iload_n 3, 1) := dk_29 (dk_at dksX1_mend_0 13 rfl rfl)
theorem dX1_mend_14 : decode cX1_mend 14 = .ok (.ifCond .ne 7, 3) := dk_154 0 7 (dk_at dksX1_mend_0 14 rfl rfl)
theorem dX1_mend_17 : decode cX1_mend 17 = .ok (.iconst (-1), 1) := dk_2 (dk_at dksX1_mend_0 17 rfl rfl)
theorem dX1_mend_18 : decode cX1_mend 18 = .ok (.goto 4, 3) := dk_167 0 4 (dk_at dksX1_mend_0 18 rfl rfl)
theorem dX1_mend_21 : decode cX1_mend 21 = .ok (.iload_n 3, 1) := dk_29 (dk_at dksX1_mend_0 21 rfl rfl)
theorem dX1_mend_22 : decode cX1_mend 22 = .ok (.ireturn, 1) := dk_172 (dk_at dksX1_mend_0 22 rfl rfl)
abbrev cX1_mendedBy : ByteArray := prog_1_method_46_code
def yX1_mendedBy : MethodName := ⟨RX1, "mendedBy", "(III)I"⟩
def dkwX1_mendedBy_1 : List UInt8 := [153, 0, 20, 25, 4, 29, 185, 0, 175, 2, 0, 192, 0, 81, 180, 0, 80, 167, 0, 4, 2, 172]
abbrev dktX1_mendedBy_1 : List UInt8 := dkwX1_mendedBy_1 ++ []
def dkwX1_mendedBy_0 : List UInt8 := [42, 27, 28, 3, 182, 1, 25, 58, 4, 29, 3, 25, 4, 185, 0, 157, 1, 0, 4, 100, 184, 0, 65]
abbrev dktX1_mendedBy_0 : List UInt8 := dkwX1_mendedBy_0 ++ dktX1_mendedBy_1
theorem dksX1_mendedBy_0 : cX1_mendedBy.data.toList.drop 0 = dktX1_mendedBy_0 := by decide +kernel
theorem dksX1_mendedBy_1 : cX1_mendedBy.data.toList.drop 23 = dktX1_mendedBy_1 := dk_seg dksX1_mendedBy_0 23 rfl rfl
theorem dX1_mendedBy_0 : decode cX1_mendedBy 0 = .ok (.aload_n 0, 1) := dk_42 (dk_at dksX1_mendedBy_0 0 rfl rfl)
theorem dX1_mendedBy_1 : decode cX1_mendedBy 1 = .ok (.iload_n 1, 1) := dk_27 (dk_at dksX1_mendedBy_0 1 rfl rfl)
theorem dX1_mendedBy_2 : decode cX1_mendedBy 2 = .ok (.iload_n 2, 1) := dk_28 (dk_at dksX1_mendedBy_0 2 rfl rfl)
theorem dX1_mendedBy_3 : decode cX1_mendedBy 3 = .ok (.iconst 0, 1) := dk_3 (dk_at dksX1_mendedBy_0 3 rfl rfl)
theorem dX1_mendedBy_4 : decode cX1_mendedBy 4 = .ok (.invokevirtual 281, 3) := dk_182 1 25 (dk_at dksX1_mendedBy_0 4 rfl rfl)
theorem dX1_mendedBy_7 : decode cX1_mendedBy 7 = .ok (.astore 4, 2) := dk_58 4 (dk_at dksX1_mendedBy_0 7 rfl rfl)
theorem dX1_mendedBy_9 : decode cX1_mendedBy 9 = .ok (.iload_n 3, 1) := dk_29 (dk_at dksX1_mendedBy_0 9 rfl rfl)
theorem dX1_mendedBy_10 : decode cX1_mendedBy 10 = .ok (.iconst 0, 1) := dk_3 (dk_at dksX1_mendedBy_0 10 rfl rfl)
theorem dX1_mendedBy_11 : decode cX1_mendedBy 11 = .ok (.aload 4, 2) := dk_25 4 (dk_at dksX1_mendedBy_0 11 rfl rfl)
theorem dX1_mendedBy_13 : decode cX1_mendedBy 13 = .ok (.invokeinterface 157 1, 5) := by decide +kernel
theorem dX1_mendedBy_18 : decode cX1_mendedBy 18 = .ok (.iconst 1, 1) := dk_4 (dk_at dksX1_mendedBy_0 18 rfl rfl)
theorem dX1_mendedBy_19 : decode cX1_mendedBy 19 = .ok (.isub, 1) := dk_100 (dk_at dksX1_mendedBy_0 19 rfl rfl)
theorem dX1_mendedBy_20 : decode cX1_mendedBy 20 = .ok (.invokestatic 65, 3) := dk_184 0 65 (dk_at dksX1_mendedBy_0 20 rfl rfl)
theorem dX1_mendedBy_23 : decode cX1_mendedBy 23 = .ok (.ifCond .eq 20, 3) := dk_153 0 20 (dk_at dksX1_mendedBy_1 0 rfl rfl)
theorem dX1_mendedBy_26 : decode cX1_mendedBy 26 = .ok (.aload 4, 2) := dk_25 4 (dk_at dksX1_mendedBy_1 3 rfl rfl)
theorem dX1_mendedBy_28 : decode cX1_mendedBy 28 = .ok (.iload_n 3, 1) := dk_29 (dk_at dksX1_mendedBy_1 5 rfl rfl)
theorem dX1_mendedBy_29 : decode cX1_mendedBy 29 = .ok (.invokeinterface 175 2, 5) := by decide +kernel
theorem dX1_mendedBy_34 : decode cX1_mendedBy 34 = .ok (.checkcast 81, 3) := dk_192 0 81 (dk_at dksX1_mendedBy_1 11 rfl rfl)
theorem dX1_mendedBy_37 : decode cX1_mendedBy 37 = .ok (.getfield 80, 3) := dk_180 0 80 (dk_at dksX1_mendedBy_1 14 rfl rfl)
theorem dX1_mendedBy_40 : decode cX1_mendedBy 40 = .ok (.goto 4, 3) := dk_167 0 4 (dk_at dksX1_mendedBy_1 17 rfl rfl)
theorem dX1_mendedBy_43 : decode cX1_mendedBy 43 = .ok (.iconst (-1), 1) := dk_2 (dk_at dksX1_mendedBy_1 20 rfl rfl)
theorem dX1_mendedBy_44 : decode cX1_mendedBy 44 = .ok (.ireturn, 1) := dk_172 (dk_at dksX1_mendedBy_1 21 rfl rfl)
theorem q73 : (Jvm.Cond.initialized "LogGrammar") ∈ lw_all := lw_g (lw_at lw_m1 1 rfl) rfl
theorem q111 : (Jvm.Cond.instantiable "LogGrammar" (12 : Nat)) ∈ lw_all := lw_g (lw_at lw_m1 39 rfl) rfl
theorem q113 : (Jvm.Cond.instanceMethod ({ cls := "LogGrammar", name := "<init>", desc := "()V" } : Jvm.MethodName)) ∈ lw_all := lw_g (lw_at lw_m1 41 rfl) rfl
theorem q114 : (Jvm.Cond.code ({ cls := "LogGrammar", name := "<init>", desc := "()V" } : Jvm.MethodName) prog_1_method_4_code (2 : Nat) (Option.none : Option Jvm.ClassFile.FieldType)) ∈ lw_all := lw_g (lw_at lw_m1 42 rfl) rfl
theorem q115 : (Jvm.Cond.methodLink "LogGrammar" (3 : Nat) ({ cls := "java/lang/Object", name := "<init>", desc := "()V" } : Jvm.MethodName)) ∈ lw_all := lw_g (lw_at lw_m1 43 rfl) rfl
theorem q118 : (Jvm.Cond.classLink "LogGrammar" (17 : Nat) "java/util/ArrayList") ∈ lw_all := lw_g (lw_at lw_m1 46 rfl) rfl
theorem q120 : (Jvm.Cond.methodLink "LogGrammar" (19 : Nat) ({ cls := "java/util/ArrayList", name := "<init>", desc := "()V" } : Jvm.MethodName)) ∈ lw_all := lw_g (lw_at lw_m1 48 rfl) rfl
theorem q148 : (Jvm.Cond.classLink "LogGrammar" (46 : Nat) "LogGrammar$Tree") ∈ lw_all := lw_g (lw_at lw_m1 76 rfl) rfl
theorem q150 : (Jvm.Cond.methodLink "LogGrammar" (48 : Nat) ({ cls := "LogGrammar$Tree", name := "<init>", desc := "(II)V" } : Jvm.MethodName)) ∈ lw_all := lw_g (lw_at lw_m1 78 rfl) rfl
theorem q170 : (Jvm.Cond.interfaceEntry "LogGrammar" (51 : Nat)) ∈ lw_tbl := lw_at lw_m1 98 rfl
theorem q171 : (Jvm.Cond.methodLink "LogGrammar" (51 : Nat) ({ cls := "java/util/List", name := "add", desc := "(Ljava/lang/Object;)Z" } : Jvm.MethodName)) ∈ lw_all := lw_g (lw_at lw_m1 99 rfl) rfl
theorem q208 : (Jvm.Cond.selects "LogGrammar" ({ cls := "java/lang/Object", name := "getClass", desc := "()Ljava/lang/Class;" } : Jvm.MethodName) ({ cls := "java/lang/Object", name := "getClass", desc := "()Ljava/lang/Class;" } : Jvm.MethodName)) ∈ lw_all := lw_g (lw_at lw_m1 136 rfl) rfl
theorem q243 : (Jvm.Cond.fieldLink "LogGrammar" (9 : Nat) "LogGrammar" "offsets" "[I") ∈ lw_all := lw_g (lw_at lw_m1 171 rfl) rfl
theorem q244 : (Jvm.Cond.fieldLink "LogGrammar" (13 : Nat) "LogGrammar" "patience" "I") ∈ lw_all := lw_g (lw_at lw_m1 172 rfl) rfl
theorem q245 : (Jvm.Cond.fieldLink "LogGrammar" (20 : Nat) "LogGrammar" "events" "Ljava/util/List;") ∈ lw_all := lw_g (lw_at lw_m1 173 rfl) rfl
theorem q248 : (Jvm.Cond.fieldLink "LogGrammar" (24 : Nat) "LogGrammar" "log" "Ljava/util/List;") ∈ lw_all := lw_g (lw_at lw_m1 176 rfl) rfl
theorem q250 : (Jvm.Cond.fieldLink "LogGrammar" (27 : Nat) "LogGrammar" "trees" "Ljava/util/List;") ∈ lw_all := lw_g (lw_at lw_m1 178 rfl) rfl
theorem q252 : (Jvm.Cond.fieldLink "LogGrammar" (172 : Nat) "LogGrammar" "present" "I") ∈ lw_all := lw_g (lw_at lw_m1 180 rfl) rfl
theorem q253 : (Jvm.Cond.fieldLink "LogGrammar" (30 : Nat) "LogGrammar" "isOpen" "Z") ∈ lw_all := lw_g (lw_at lw_m1 181 rfl) rfl
theorem q255 : (Jvm.Cond.fieldLink "LogGrammar" (89 : Nat) "LogGrammar" "droppedMany" "I") ∈ lw_all := lw_g (lw_at lw_m1 183 rfl) rfl
theorem q256 : (Jvm.Cond.fieldLink "LogGrammar" (34 : Nat) "LogGrammar" "parts" "Ljava/util/List;") ∈ lw_all := lw_g (lw_at lw_m1 184 rfl) rfl
theorem q257 : (Jvm.Cond.fieldLink "LogGrammar" (37 : Nat) "LogGrammar" "monitors" "Ljava/util/List;") ∈ lw_all := lw_g (lw_at lw_m1 185 rfl) rfl
theorem q259 : (Jvm.Cond.fieldLink "LogGrammar" (40 : Nat) "LogGrammar" "found" "[I") ∈ lw_all := lw_g (lw_at lw_m1 187 rfl) rfl
theorem q260 : (Jvm.Cond.fieldLink "LogGrammar" (43 : Nat) "LogGrammar" "left" "Ljava/util/List;") ∈ lw_all := lw_g (lw_at lw_m1 188 rfl) rfl
theorem q261 : (Jvm.Cond.laysFinal "LogGrammar" "LogGrammar" "offsets" "[I") ∈ lw_all := lw_g (lw_at lw_m1 189 rfl) rfl
theorem q262 : (Jvm.Cond.soleField "LogGrammar" "offsets") ∈ lw_all := lw_g (lw_at lw_m1 190 rfl) rfl
theorem q263 : (Jvm.Cond.lays "LogGrammar" "LogGrammar" "patience" "I") ∈ lw_all := lw_g (lw_at lw_m1 191 rfl) rfl
theorem q264 : (Jvm.Cond.soleField "LogGrammar" "patience") ∈ lw_all := lw_g (lw_at lw_m1 192 rfl) rfl
theorem q265 : (Jvm.Cond.laysFinal "LogGrammar" "LogGrammar" "events" "Ljava/util/List;") ∈ lw_all := lw_g (lw_at lw_m1 193 rfl) rfl
theorem q266 : (Jvm.Cond.soleField "LogGrammar" "events") ∈ lw_all := lw_g (lw_at lw_m1 194 rfl) rfl
theorem q267 : (Jvm.Cond.laysFinal "LogGrammar" "LogGrammar" "log" "Ljava/util/List;") ∈ lw_all := lw_g (lw_at lw_m1 195 rfl) rfl
theorem q268 : (Jvm.Cond.soleField "LogGrammar" "log") ∈ lw_all := lw_g (lw_at lw_m1 196 rfl) rfl
theorem q269 : (Jvm.Cond.laysFinal "LogGrammar" "LogGrammar" "trees" "Ljava/util/List;") ∈ lw_all := lw_g (lw_at lw_m1 197 rfl) rfl
theorem q270 : (Jvm.Cond.soleField "LogGrammar" "trees") ∈ lw_all := lw_g (lw_at lw_m1 198 rfl) rfl
theorem q271 : (Jvm.Cond.lays "LogGrammar" "LogGrammar" "present" "I") ∈ lw_all := lw_g (lw_at lw_m1 199 rfl) rfl
theorem q272 : (Jvm.Cond.soleField "LogGrammar" "present") ∈ lw_all := lw_g (lw_at lw_m1 200 rfl) rfl
theorem q273 : (Jvm.Cond.lays "LogGrammar" "LogGrammar" "isOpen" "Z") ∈ lw_all := lw_g (lw_at lw_m1 201 rfl) rfl
theorem q274 : (Jvm.Cond.soleField "LogGrammar" "isOpen") ∈ lw_all := lw_g (lw_at lw_m1 202 rfl) rfl
theorem q275 : (Jvm.Cond.lays "LogGrammar" "LogGrammar" "droppedMany" "I") ∈ lw_all := lw_g (lw_at lw_m1 203 rfl) rfl
theorem q276 : (Jvm.Cond.soleField "LogGrammar" "droppedMany") ∈ lw_all := lw_g (lw_at lw_m1 204 rfl) rfl
theorem q277 : (Jvm.Cond.laysFinal "LogGrammar" "LogGrammar" "parts" "Ljava/util/List;") ∈ lw_all := lw_g (lw_at lw_m1 205 rfl) rfl
theorem q278 : (Jvm.Cond.soleField "LogGrammar" "parts") ∈ lw_all := lw_g (lw_at lw_m1 206 rfl) rfl
theorem q279 : (Jvm.Cond.laysFinal "LogGrammar" "LogGrammar" "monitors" "Ljava/util/List;") ∈ lw_all := lw_g (lw_at lw_m1 207 rfl) rfl
theorem q280 : (Jvm.Cond.soleField "LogGrammar" "monitors") ∈ lw_all := lw_g (lw_at lw_m1 208 rfl) rfl
theorem q281 : (Jvm.Cond.laysFinal "LogGrammar" "LogGrammar" "found" "[I") ∈ lw_all := lw_g (lw_at lw_m1 209 rfl) rfl
theorem q282 : (Jvm.Cond.soleField "LogGrammar" "found") ∈ lw_all := lw_g (lw_at lw_m1 210 rfl) rfl
theorem q283 : (Jvm.Cond.laysFinal "LogGrammar" "LogGrammar" "left" "Ljava/util/List;") ∈ lw_all := lw_g (lw_at lw_m1 211 rfl) rfl
theorem q284 : (Jvm.Cond.soleField "LogGrammar" "left") ∈ lw_all := lw_g (lw_at lw_m1 212 rfl) rfl
theorem q285 : (Jvm.Cond.superclass "LogGrammar" "java/lang/Object") ∈ lw_all := lw_g (lw_at lw_m1 213 rfl) rfl
theorem q287 : (Jvm.Cond.instanceMethod ({ cls := "LogGrammar", name := "scrap", desc := "()I" } : Jvm.MethodName)) ∈ lw_all := lw_g (lw_at lw_m1 215 rfl) rfl
theorem q288 : (Jvm.Cond.selects "LogGrammar" ({ cls := "LogGrammar", name := "scrap", desc := "()I" } : Jvm.MethodName) ({ cls := "LogGrammar", name := "scrap", desc := "()I" } : Jvm.MethodName)) ∈ lw_all := lw_g (lw_at lw_m1 216 rfl) rfl
theorem q289 : (Jvm.Cond.code ({ cls := "LogGrammar", name := "scrap", desc := "()I" } : Jvm.MethodName) prog_1_method_22_code (2 : Nat) (Option.some Jvm.ClassFile.FieldType.int)) ∈ lw_all := lw_g (lw_at lw_m1 217 rfl) rfl
theorem q290 : (Jvm.Cond.interfaceEntry "LogGrammar" (157 : Nat)) ∈ lw_tbl := lw_at lw_m1 218 rfl
theorem q291 : (Jvm.Cond.methodLink "LogGrammar" (157 : Nat) ({ cls := "java/util/List", name := "size", desc := "()I" } : Jvm.MethodName)) ∈ lw_all := lw_g (lw_at lw_m1 219 rfl) rfl
theorem q299 : (Jvm.Cond.interfaceEntry "LogGrammar" (160 : Nat)) ∈ lw_tbl := lw_at lw_m1 227 rfl
theorem q300 : (Jvm.Cond.methodLink "LogGrammar" (160 : Nat) ({ cls := "java/util/List", name := "clear", desc := "()V" } : Jvm.MethodName)) ∈ lw_all := lw_g (lw_at lw_m1 228 rfl) rfl
theorem q309 : (Jvm.Cond.instanceMethod ({ cls := "LogGrammar", name := "events", desc := "()I" } : Jvm.MethodName)) ∈ lw_all := lw_g (lw_at lw_m1 237 rfl) rfl
theorem q310 : (Jvm.Cond.selects "LogGrammar" ({ cls := "LogGrammar", name := "events", desc := "()I" } : Jvm.MethodName) ({ cls := "LogGrammar", name := "events", desc := "()I" } : Jvm.MethodName)) ∈ lw_all := lw_g (lw_at lw_m1 238 rfl) rfl
theorem q311 : (Jvm.Cond.code ({ cls := "LogGrammar", name := "events", desc := "()I" } : Jvm.MethodName) prog_1_method_24_code (1 : Nat) (Option.some Jvm.ClassFile.FieldType.int)) ∈ lw_all := lw_g (lw_at lw_m1 239 rfl) rfl
theorem q313 : (Jvm.Cond.instanceMethod ({ cls := "LogGrammar", name := "dropped", desc := "()I" } : Jvm.MethodName)) ∈ lw_all := lw_g (lw_at lw_m2 1 rfl) rfl
theorem q314 : (Jvm.Cond.selects "LogGrammar" ({ cls := "LogGrammar", name := "dropped", desc := "()I" } : Jvm.MethodName) ({ cls := "LogGrammar", name := "dropped", desc := "()I" } : Jvm.MethodName)) ∈ lw_all := lw_g (lw_at lw_m2 2 rfl) rfl
theorem q315 : (Jvm.Cond.code ({ cls := "LogGrammar", name := "dropped", desc := "()I" } : Jvm.MethodName) prog_1_method_25_code (1 : Nat) (Option.some Jvm.ClassFile.FieldType.int)) ∈ lw_all := lw_g (lw_at lw_m2 3 rfl) rfl
theorem q317 : (Jvm.Cond.instanceMethod ({ cls := "LogGrammar", name := "present", desc := "()I" } : Jvm.MethodName)) ∈ lw_all := lw_g (lw_at lw_m2 5 rfl) rfl
theorem q318 : (Jvm.Cond.selects "LogGrammar" ({ cls := "LogGrammar", name := "present", desc := "()I" } : Jvm.MethodName) ({ cls := "LogGrammar", name := "present", desc := "()I" } : Jvm.MethodName)) ∈ lw_all := lw_g (lw_at lw_m2 6 rfl) rfl
theorem q319 : (Jvm.Cond.code ({ cls := "LogGrammar", name := "present", desc := "()I" } : Jvm.MethodName) prog_1_method_26_code (1 : Nat) (Option.some Jvm.ClassFile.FieldType.int)) ∈ lw_all := lw_g (lw_at lw_m2 7 rfl) rfl
theorem q321 : (Jvm.Cond.instanceMethod ({ cls := "LogGrammar", name := "parts", desc := "()I" } : Jvm.MethodName)) ∈ lw_all := lw_g (lw_at lw_m2 9 rfl) rfl
theorem q322 : (Jvm.Cond.selects "LogGrammar" ({ cls := "LogGrammar", name := "parts", desc := "()I" } : Jvm.MethodName) ({ cls := "LogGrammar", name := "parts", desc := "()I" } : Jvm.MethodName)) ∈ lw_all := lw_g (lw_at lw_m2 10 rfl) rfl
theorem q323 : (Jvm.Cond.code ({ cls := "LogGrammar", name := "parts", desc := "()I" } : Jvm.MethodName) prog_1_method_40_code (8 : Nat) (Option.some Jvm.ClassFile.FieldType.int)) ∈ lw_all := lw_g (lw_at lw_m2 11 rfl) rfl
theorem q324 : (Jvm.Cond.interfaceEntry "LogGrammar" (200 : Nat)) ∈ lw_tbl := lw_at lw_m2 12 rfl
theorem q325 : (Jvm.Cond.methodLink "LogGrammar" (200 : Nat) ({ cls := "java/util/List", name := "iterator", desc := "()Ljava/util/Iterator;" } : Jvm.MethodName)) ∈ lw_all := lw_g (lw_at lw_m2 13 rfl) rfl
theorem q352 : (Jvm.Cond.interfaceEntry "LogGrammar" (204 : Nat)) ∈ lw_tbl := lw_at lw_m2 40 rfl
theorem q353 : (Jvm.Cond.methodLink "LogGrammar" (204 : Nat) ({ cls := "java/util/Iterator", name := "hasNext", desc := "()Z" } : Jvm.MethodName)) ∈ lw_all := lw_g (lw_at lw_m2 41 rfl) rfl
theorem q362 : (Jvm.Cond.interfaceEntry "LogGrammar" (210 : Nat)) ∈ lw_tbl := lw_at lw_m2 50 rfl
theorem q363 : (Jvm.Cond.methodLink "LogGrammar" (210 : Nat) ({ cls := "java/util/Iterator", name := "next", desc := "()Ljava/lang/Object;" } : Jvm.MethodName)) ∈ lw_all := lw_g (lw_at lw_m2 51 rfl) rfl
theorem q375 : (Jvm.Cond.classLink "LogGrammar" (163 : Nat) "LogGrammar$Monitor") ∈ lw_all := lw_g (lw_at lw_m2 63 rfl) rfl
theorem q376 : (Jvm.Cond.classLink "LogGrammar" (102 : Nat) "LogGrammar$Formula") ∈ lw_all := lw_g (lw_at lw_m2 64 rfl) rfl
theorem q377 : (Jvm.Cond.interfaceEntry "LogGrammar" (175 : Nat)) ∈ lw_tbl := lw_at lw_m2 65 rfl
theorem q378 : (Jvm.Cond.methodLink "LogGrammar" (175 : Nat) ({ cls := "java/util/List", name := "get", desc := "(I)Ljava/lang/Object;" } : Jvm.MethodName)) ∈ lw_all := lw_g (lw_at lw_m2 66 rfl) rfl
theorem q396 : (Jvm.Cond.methodLink "LogGrammar" (263 : Nat) ({ cls := "LogGrammar$Formula", name := "isSame", desc := "(LLogGrammar$Formula;)Z" } : Jvm.MethodName)) ∈ lw_all := lw_g (lw_at lw_m2 84 rfl) rfl
theorem q402 : (Jvm.Cond.instanceMethod ({ cls := "LogGrammar", name := "orders", desc := "()I" } : Jvm.MethodName)) ∈ lw_all := lw_g (lw_at lw_m2 90 rfl) rfl
theorem q403 : (Jvm.Cond.selects "LogGrammar" ({ cls := "LogGrammar", name := "orders", desc := "()I" } : Jvm.MethodName) ({ cls := "LogGrammar", name := "orders", desc := "()I" } : Jvm.MethodName)) ∈ lw_all := lw_g (lw_at lw_m2 91 rfl) rfl
theorem q404 : (Jvm.Cond.code ({ cls := "LogGrammar", name := "orders", desc := "()I" } : Jvm.MethodName) prog_1_method_41_code (1 : Nat) (Option.some Jvm.ClassFile.FieldType.int)) ∈ lw_all := lw_g (lw_at lw_m2 92 rfl) rfl
theorem q405 : (Jvm.Cond.methodLink "LogGrammar" (267 : Nat) ({ cls := "LogGrammar", name := "orderMany", desc := "()I" } : Jvm.MethodName)) ∈ lw_all := lw_g (lw_at lw_m2 93 rfl) rfl
theorem q406 : (Jvm.Cond.privateMethod ({ cls := "LogGrammar", name := "orderMany", desc := "()I" } : Jvm.MethodName)) ∈ lw_tbl := lw_at lw_m2 94 rfl
theorem q407 : (Jvm.Cond.instanceMethod ({ cls := "LogGrammar", name := "orderMany", desc := "()I" } : Jvm.MethodName)) ∈ lw_all := lw_g (lw_at lw_m2 95 rfl) rfl
theorem q408 : (Jvm.Cond.code ({ cls := "LogGrammar", name := "orderMany", desc := "()I" } : Jvm.MethodName) prog_1_method_60_code (2 : Nat) (Option.some Jvm.ClassFile.FieldType.int)) ∈ lw_all := lw_g (lw_at lw_m2 96 rfl) rfl
theorem q409 : (Jvm.Cond.classLink "LogGrammar" (270 : Nat) "LogGrammar$Orders") ∈ lw_all := lw_g (lw_at lw_m2 97 rfl) rfl
theorem q411 : (Jvm.Cond.methodLink "LogGrammar" (272 : Nat) ({ cls := "LogGrammar$Orders", name := "<init>", desc := "(LLogGrammar;LLogGrammar$Monitor;LLogGrammar$Event;I)V" } : Jvm.MethodName)) ∈ lw_all := lw_g (lw_at lw_m2 99 rfl) rfl
theorem q422 : (Jvm.Cond.fieldLinkNest "LogGrammar" (335 : Nat) "LogGrammar$Orders" "many" "I" "LogGrammar") ∈ lw_tbl := lw_at lw_m2 110 rfl
theorem q424 : (Jvm.Cond.fieldLinkNest "LogGrammar" (278 : Nat) "LogGrammar$Orders" "having" "I" "LogGrammar") ∈ lw_tbl := lw_at lw_m2 112 rfl
theorem q441 : (Jvm.Cond.methodLink "LogGrammar" (275 : Nat) ({ cls := "LogGrammar$Orders", name := "go", desc := "()V" } : Jvm.MethodName)) ∈ lw_all := lw_g (lw_at lw_m2 129 rfl) rfl
theorem q452 : (Jvm.Cond.privateMethod ({ cls := "LogGrammar", name := "ids", desc := "()I" } : Jvm.MethodName)) ∈ lw_tbl := lw_at lw_m2 140 rfl
theorem q453 : (Jvm.Cond.instanceMethod ({ cls := "LogGrammar", name := "ids", desc := "()I" } : Jvm.MethodName)) ∈ lw_all := lw_g (lw_at lw_m2 141 rfl) rfl
theorem q454 : (Jvm.Cond.code ({ cls := "LogGrammar", name := "ids", desc := "()I" } : Jvm.MethodName) prog_1_method_59_code (3 : Nat) (Option.some Jvm.ClassFile.FieldType.int)) ∈ lw_all := lw_g (lw_at lw_m2 142 rfl) rfl
theorem q455 : (Jvm.Cond.classLink "LogGrammar" (81 : Nat) "LogGrammar$Event") ∈ lw_all := lw_g (lw_at lw_m2 143 rfl) rfl
theorem q493 : (Jvm.Cond.static ({ cls := "LogGrammar", name := "negated", desc := "(I)I" } : Jvm.MethodName)) ∈ lw_all := lw_g (lw_at lw_m2 181 rfl) rfl
theorem q494 : (Jvm.Cond.code ({ cls := "LogGrammar", name := "negated", desc := "(I)I" } : Jvm.MethodName) prog_1_method_1_code (1 : Nat) (Option.some Jvm.ClassFile.FieldType.int)) ∈ lw_all := lw_g (lw_at lw_m2 182 rfl) rfl
theorem q496 : (Jvm.Cond.static ({ cls := "LogGrammar", name := "and", desc := "(II)I" } : Jvm.MethodName)) ∈ lw_all := lw_g (lw_at lw_m2 184 rfl) rfl
theorem q497 : (Jvm.Cond.code ({ cls := "LogGrammar", name := "and", desc := "(II)I" } : Jvm.MethodName) prog_1_method_2_code (2 : Nat) (Option.some Jvm.ClassFile.FieldType.int)) ∈ lw_all := lw_g (lw_at lw_m2 185 rfl) rfl
theorem q499 : (Jvm.Cond.static ({ cls := "LogGrammar", name := "or", desc := "(II)I" } : Jvm.MethodName)) ∈ lw_all := lw_g (lw_at lw_m2 187 rfl) rfl
theorem q500 : (Jvm.Cond.code ({ cls := "LogGrammar", name := "or", desc := "(II)I" } : Jvm.MethodName) prog_1_method_3_code (2 : Nat) (Option.some Jvm.ClassFile.FieldType.int)) ∈ lw_all := lw_g (lw_at lw_m2 188 rfl) rfl
theorem q545 : (Jvm.Cond.selects "LogGrammar" ({ cls := "java/lang/Object", name := "equals", desc := "(Ljava/lang/Object;)Z" } : Jvm.MethodName) ({ cls := "java/lang/Object", name := "equals", desc := "(Ljava/lang/Object;)Z" } : Jvm.MethodName)) ∈ lw_all := lw_g (lw_at lw_m2 233 rfl) rfl
theorem q695 : (Jvm.Cond.instanceMethod ({ cls := "LogGrammar", name := "setOffset", desc := "(II)I" } : Jvm.MethodName)) ∈ lw_all := lw_g (lw_at lw_m3 143 rfl) rfl
theorem q696 : (Jvm.Cond.selects "LogGrammar" ({ cls := "LogGrammar", name := "setOffset", desc := "(II)I" } : Jvm.MethodName) ({ cls := "LogGrammar", name := "setOffset", desc := "(II)I" } : Jvm.MethodName)) ∈ lw_all := lw_g (lw_at lw_m3 144 rfl) rfl
theorem q697 : (Jvm.Cond.code ({ cls := "LogGrammar", name := "setOffset", desc := "(II)I" } : Jvm.MethodName) prog_1_method_5_code (4 : Nat) (Option.some Jvm.ClassFile.FieldType.int)) ∈ lw_all := lw_g (lw_at lw_m3 145 rfl) rfl
theorem q698 : (Jvm.Cond.methodLink "LogGrammar" (57 : Nat) ({ cls := "LogGrammar", name := "isNode", desc := "(I)Z" } : Jvm.MethodName)) ∈ lw_all := lw_g (lw_at lw_m3 146 rfl) rfl
theorem q699 : (Jvm.Cond.static ({ cls := "LogGrammar", name := "isNode", desc := "(I)Z" } : Jvm.MethodName)) ∈ lw_all := lw_g (lw_at lw_m3 147 rfl) rfl
theorem q700 : (Jvm.Cond.code ({ cls := "LogGrammar", name := "isNode", desc := "(I)Z" } : Jvm.MethodName) prog_1_method_51_code (1 : Nat) (Option.some Jvm.ClassFile.FieldType.boolean)) ∈ lw_all := lw_g (lw_at lw_m3 148 rfl) rfl
theorem q701 : (Jvm.Cond.methodLink "LogGrammar" (65 : Nat) ({ cls := "LogGrammar", name := "isIn", desc := "(III)Z" } : Jvm.MethodName)) ∈ lw_all := lw_g (lw_at lw_m3 149 rfl) rfl
theorem q702 : (Jvm.Cond.static ({ cls := "LogGrammar", name := "isIn", desc := "(III)Z" } : Jvm.MethodName)) ∈ lw_all := lw_g (lw_at lw_m3 150 rfl) rfl
theorem q703 : (Jvm.Cond.code ({ cls := "LogGrammar", name := "isIn", desc := "(III)Z" } : Jvm.MethodName) prog_1_method_50_code (3 : Nat) (Option.some Jvm.ClassFile.FieldType.boolean)) ∈ lw_all := lw_g (lw_at lw_m3 151 rfl) rfl
theorem q704 : (Jvm.Cond.methodLink "LogGrammar" (61 : Nat) ({ cls := "LogGrammar", name := "place", desc := "(Z)V" } : Jvm.MethodName)) ∈ lw_all := lw_g (lw_at lw_m3 152 rfl) rfl
theorem q705 : (Jvm.Cond.static ({ cls := "LogGrammar", name := "place", desc := "(Z)V" } : Jvm.MethodName)) ∈ lw_all := lw_g (lw_at lw_m3 153 rfl) rfl
theorem q706 : (Jvm.Cond.code ({ cls := "LogGrammar", name := "place", desc := "(Z)V" } : Jvm.MethodName) prog_1_method_47_code (1 : Nat) (Option.none : Option Jvm.ClassFile.FieldType)) ∈ lw_all := lw_g (lw_at lw_m3 154 rfl) rfl
theorem q707 : (Jvm.Cond.classLink "LogGrammar" (285 : Nat) "java/lang/IndexOutOfBoundsException") ∈ lw_all := lw_g (lw_at lw_m3 155 rfl) rfl
theorem q716 : (Jvm.Cond.stringRef "LogGrammar" (287 : Nat) "not there") ∈ lw_tbl := lw_at lw_m3 164 rfl
theorem q717 : (Jvm.Cond.methodLink "LogGrammar" (289 : Nat) ({ cls := "java/lang/IndexOutOfBoundsException", name := "<init>", desc := "(Ljava/lang/String;)V" } : Jvm.MethodName)) ∈ lw_all := lw_g (lw_at lw_m3 165 rfl) rfl
theorem q720 : (Jvm.Cond.methodLink "LogGrammar" (69 : Nat) ({ cls := "LogGrammar", name := "check", desc := "(Z)V" } : Jvm.MethodName)) ∈ lw_all := lw_g (lw_at lw_m3 168 rfl) rfl
theorem q721 : (Jvm.Cond.static ({ cls := "LogGrammar", name := "check", desc := "(Z)V" } : Jvm.MethodName)) ∈ lw_all := lw_g (lw_at lw_m3 169 rfl) rfl
theorem q722 : (Jvm.Cond.code ({ cls := "LogGrammar", name := "check", desc := "(Z)V" } : Jvm.MethodName) prog_1_method_48_code (1 : Nat) (Option.none : Option Jvm.ClassFile.FieldType)) ∈ lw_all := lw_g (lw_at lw_m3 170 rfl) rfl
theorem q723 : (Jvm.Cond.classLink "LogGrammar" (292 : Nat) "java/lang/IllegalArgumentException") ∈ lw_all := lw_g (lw_at lw_m3 171 rfl) rfl
theorem q732 : (Jvm.Cond.stringRef "LogGrammar" (294 : Nat) "out of range") ∈ lw_tbl := lw_at lw_m3 180 rfl
theorem q733 : (Jvm.Cond.methodLink "LogGrammar" (296 : Nat) ({ cls := "java/lang/IllegalArgumentException", name := "<init>", desc := "(Ljava/lang/String;)V" } : Jvm.MethodName)) ∈ lw_all := lw_g (lw_at lw_m3 181 rfl) rfl
theorem q743 : (Jvm.Cond.instanceMethod ({ cls := "LogGrammar", name := "setPatience", desc := "(I)I" } : Jvm.MethodName)) ∈ lw_all := lw_g (lw_at lw_m3 191 rfl) rfl
theorem q744 : (Jvm.Cond.selects "LogGrammar" ({ cls := "LogGrammar", name := "setPatience", desc := "(I)I" } : Jvm.MethodName) ({ cls := "LogGrammar", name := "setPatience", desc := "(I)I" } : Jvm.MethodName)) ∈ lw_all := lw_g (lw_at lw_m3 192 rfl) rfl
theorem q745 : (Jvm.Cond.code ({ cls := "LogGrammar", name := "setPatience", desc := "(I)I" } : Jvm.MethodName) prog_1_method_6_code (3 : Nat) (Option.some Jvm.ClassFile.FieldType.int)) ∈ lw_all := lw_g (lw_at lw_m3 193 rfl) rfl
theorem q751 : (Jvm.Cond.instanceMethod ({ cls := "LogGrammar", name := "event", desc := "(IIIII)I" } : Jvm.MethodName)) ∈ lw_all := lw_g (lw_at lw_m3 199 rfl) rfl
theorem q752 : (Jvm.Cond.selects "LogGrammar" ({ cls := "LogGrammar", name := "event", desc := "(IIIII)I" } : Jvm.MethodName) ({ cls := "LogGrammar", name := "event", desc := "(IIIII)I" } : Jvm.MethodName)) ∈ lw_all := lw_g (lw_at lw_m3 200 rfl) rfl
theorem q753 : (Jvm.Cond.code ({ cls := "LogGrammar", name := "event", desc := "(IIIII)I" } : Jvm.MethodName) prog_1_method_7_code (7 : Nat) (Option.some Jvm.ClassFile.FieldType.int)) ∈ lw_all := lw_g (lw_at lw_m3 201 rfl) rfl
theorem q754 : (Jvm.Cond.methodLink "LogGrammar" (72 : Nat) ({ cls := "LogGrammar", name := "comer", desc := "(IIIII)LLogGrammar$Event;" } : Jvm.MethodName)) ∈ lw_all := lw_g (lw_at lw_m3 202 rfl) rfl
theorem q755 : (Jvm.Cond.privateMethod ({ cls := "LogGrammar", name := "comer", desc := "(IIIII)LLogGrammar$Event;" } : Jvm.MethodName)) ∈ lw_tbl := lw_at lw_m3 203 rfl
theorem q756 : (Jvm.Cond.instanceMethod ({ cls := "LogGrammar", name := "comer", desc := "(IIIII)LLogGrammar$Event;" } : Jvm.MethodName)) ∈ lw_all := lw_g (lw_at lw_m3 204 rfl) rfl
theorem q757 : (Jvm.Cond.code ({ cls := "LogGrammar", name := "comer", desc := "(IIIII)LLogGrammar$Event;" } : Jvm.MethodName) prog_1_method_55_code (7 : Nat) (Option.some (Jvm.ClassFile.FieldType.object "LogGrammar$Event"))) ∈ lw_all := lw_g (lw_at lw_m3 205 rfl) rfl
theorem q758 : (Jvm.Cond.methodLink "LogGrammar" (92 : Nat) ({ cls := "LogGrammar", name := "allow", desc := "(Z)V" } : Jvm.MethodName)) ∈ lw_all := lw_g (lw_at lw_m3 206 rfl) rfl
theorem q759 : (Jvm.Cond.static ({ cls := "LogGrammar", name := "allow", desc := "(Z)V" } : Jvm.MethodName)) ∈ lw_all := lw_g (lw_at lw_m3 207 rfl) rfl
theorem q760 : (Jvm.Cond.code ({ cls := "LogGrammar", name := "allow", desc := "(Z)V" } : Jvm.MethodName) prog_1_method_49_code (1 : Nat) (Option.none : Option Jvm.ClassFile.FieldType)) ∈ lw_all := lw_g (lw_at lw_m3 208 rfl) rfl
theorem q761 : (Jvm.Cond.classLink "LogGrammar" (297 : Nat) "java/lang/IllegalStateException") ∈ lw_all := lw_g (lw_at lw_m3 209 rfl) rfl
theorem q770 : (Jvm.Cond.stringRef "LogGrammar" (299 : Nat) "not possible") ∈ lw_tbl := lw_at lw_m3 218 rfl
theorem q771 : (Jvm.Cond.methodLink "LogGrammar" (301 : Nat) ({ cls := "java/lang/IllegalStateException", name := "<init>", desc := "(Ljava/lang/String;)V" } : Jvm.MethodName)) ∈ lw_all := lw_g (lw_at lw_m3 219 rfl) rfl
theorem q778 : (Jvm.Cond.methodLink "LogGrammar" (302 : Nat) ({ cls := "LogGrammar$Event", name := "<init>", desc := "(IIIIIIZ)V" } : Jvm.MethodName)) ∈ lw_all := lw_g (lw_at lw_m3 226 rfl) rfl
theorem q784 : (Jvm.Cond.fieldLinkNest "LogGrammar" (80 : Nat) "LogGrammar$Event" "number" "I" "LogGrammar") ∈ lw_tbl := lw_at lw_m3 232 rfl
theorem q788 : (Jvm.Cond.fieldLinkNest "LogGrammar" (182 : Nat) "LogGrammar$Event" "time" "I" "LogGrammar") ∈ lw_tbl := lw_at lw_m3 236 rfl
theorem q793 : (Jvm.Cond.fieldLinkNest "LogGrammar" (214 : Nat) "LogGrammar$Event" "kind" "I" "LogGrammar") ∈ lw_tbl := lw_at lw_m4 1 rfl
theorem q797 : (Jvm.Cond.fieldLinkNest "LogGrammar" (328 : Nat) "LogGrammar$Event" "id" "I" "LogGrammar") ∈ lw_tbl := lw_at lw_m4 5 rfl
theorem q800 : (Jvm.Cond.fieldLinkNest "LogGrammar" (217 : Nat) "LogGrammar$Event" "value" "I" "LogGrammar") ∈ lw_tbl := lw_at lw_m4 8 rfl
theorem q802 : (Jvm.Cond.fieldLinkNest "LogGrammar" (185 : Nat) "LogGrammar$Event" "isLate" "Z" "LogGrammar") ∈ lw_tbl := lw_at lw_m4 10 rfl
theorem q818 : (Jvm.Cond.methodLink "LogGrammar" (76 : Nat) ({ cls := "LogGrammar", name := "come", desc := "(LLogGrammar$Event;)V" } : Jvm.MethodName)) ∈ lw_all := lw_g (lw_at lw_m4 26 rfl) rfl
theorem q819 : (Jvm.Cond.privateMethod ({ cls := "LogGrammar", name := "come", desc := "(LLogGrammar$Event;)V" } : Jvm.MethodName)) ∈ lw_tbl := lw_at lw_m4 27 rfl
theorem q820 : (Jvm.Cond.instanceMethod ({ cls := "LogGrammar", name := "come", desc := "(LLogGrammar$Event;)V" } : Jvm.MethodName)) ∈ lw_all := lw_g (lw_at lw_m4 28 rfl) rfl
theorem q821 : (Jvm.Cond.code ({ cls := "LogGrammar", name := "come", desc := "(LLogGrammar$Event;)V" } : Jvm.MethodName) prog_1_method_57_code (2 : Nat) (Option.none : Option Jvm.ClassFile.FieldType)) ∈ lw_all := lw_g (lw_at lw_m4 29 rfl) rfl
theorem q822 : (Jvm.Cond.methodLink "LogGrammar" (311 : Nat) ({ cls := "LogGrammar", name := "insert", desc := "(Ljava/util/List;LLogGrammar$Event;)V" } : Jvm.MethodName)) ∈ lw_all := lw_g (lw_at lw_m4 30 rfl) rfl
theorem q823 : (Jvm.Cond.static ({ cls := "LogGrammar", name := "insert", desc := "(Ljava/util/List;LLogGrammar$Event;)V" } : Jvm.MethodName)) ∈ lw_all := lw_g (lw_at lw_m4 31 rfl) rfl
theorem q824 : (Jvm.Cond.code ({ cls := "LogGrammar", name := "insert", desc := "(Ljava/util/List;LLogGrammar$Event;)V" } : Jvm.MethodName) prog_1_method_56_code (3 : Nat) (Option.none : Option Jvm.ClassFile.FieldType)) ∈ lw_all := lw_g (lw_at lw_m4 32 rfl) rfl
theorem q825 : (Jvm.Cond.methodLink "LogGrammar" (305 : Nat) ({ cls := "LogGrammar$Event", name := "isAhead", desc := "(LLogGrammar$Event;)Z" } : Jvm.MethodName)) ∈ lw_all := lw_g (lw_at lw_m4 33 rfl) rfl
theorem q829 : (Jvm.Cond.interfaceEntry "LogGrammar" (308 : Nat)) ∈ lw_tbl := lw_at lw_m4 37 rfl
theorem q830 : (Jvm.Cond.methodLink "LogGrammar" (308 : Nat) ({ cls := "java/util/List", name := "add", desc := "(ILjava/lang/Object;)V" } : Jvm.MethodName)) ∈ lw_all := lw_g (lw_at lw_m4 38 rfl) rfl
theorem q1072 : (Jvm.Cond.methodLink "LogGrammar" (220 : Nat) ({ cls := "java/lang/Math", name := "max", desc := "(II)I" } : Jvm.MethodName)) ∈ lw_all := lw_g (lw_at lw_m5 40 rfl) rfl
theorem q1073 : (Jvm.Cond.classLink "LogGrammar" (192 : Nat) "LogGrammar$Stretch") ∈ lw_all := lw_g (lw_at lw_m5 41 rfl) rfl
theorem q1075 : (Jvm.Cond.methodLink "LogGrammar" (315 : Nat) ({ cls := "LogGrammar$Stretch", name := "<init>", desc := "(II)V" } : Jvm.MethodName)) ∈ lw_all := lw_g (lw_at lw_m5 43 rfl) rfl
theorem q1080 : (Jvm.Cond.fieldLinkNest "LogGrammar" (194 : Nat) "LogGrammar$Stretch" "many" "I" "LogGrammar") ∈ lw_tbl := lw_at lw_m5 48 rfl
theorem q1082 : (Jvm.Cond.fieldLinkNest "LogGrammar" (197 : Nat) "LogGrammar$Stretch" "greatest" "I" "LogGrammar") ∈ lw_tbl := lw_at lw_m5 50 rfl
theorem q1088 : (Jvm.Cond.methodLink "LogGrammar" (316 : Nat) ({ cls := "LogGrammar$Tree", name := "add", desc := "(ILLogGrammar$Summary;)V" } : Jvm.MethodName)) ∈ lw_all := lw_g (lw_at lw_m5 56 rfl) rfl
theorem q1113 : (Jvm.Cond.methodLink "LogGrammar" (99 : Nat) ({ cls := "LogGrammar", name := "find", desc := "()V" } : Jvm.MethodName)) ∈ lw_all := lw_g (lw_at lw_m5 81 rfl) rfl
theorem q1114 : (Jvm.Cond.privateMethod ({ cls := "LogGrammar", name := "find", desc := "()V" } : Jvm.MethodName)) ∈ lw_tbl := lw_at lw_m5 82 rfl
theorem q1115 : (Jvm.Cond.instanceMethod ({ cls := "LogGrammar", name := "find", desc := "()V" } : Jvm.MethodName)) ∈ lw_all := lw_g (lw_at lw_m5 83 rfl) rfl
theorem q1116 : (Jvm.Cond.code ({ cls := "LogGrammar", name := "find", desc := "()V" } : Jvm.MethodName) prog_1_method_61_code (3 : Nat) (Option.none : Option Jvm.ClassFile.FieldType)) ∈ lw_all := lw_g (lw_at lw_m5 84 rfl) rfl
theorem q1117 : (Jvm.Cond.methodLink "LogGrammar" (336 : Nat) ({ cls := "LogGrammar$Monitor", name := "find", desc := "()V" } : Jvm.MethodName)) ∈ lw_all := lw_g (lw_at lw_m5 85 rfl) rfl
theorem q1162 : (Jvm.Cond.fieldLinkNest "LogGrammar" (235 : Nat) "LogGrammar$Pair" "first" "Ljava/lang/Object;" "LogGrammar") ∈ lw_tbl := lw_at lw_m5 130 rfl
theorem q1164 : (Jvm.Cond.fieldLinkNest "LogGrammar" (248 : Nat) "LogGrammar$Pair" "second" "Ljava/lang/Object;" "LogGrammar") ∈ lw_tbl := lw_at lw_m5 132 rfl
theorem q1187 : (Jvm.Cond.instanceMethod ({ cls := "LogGrammar", name := "offer", desc := "(IIIII)I" } : Jvm.MethodName)) ∈ lw_all := lw_g (lw_at lw_m5 155 rfl) rfl
theorem q1188 : (Jvm.Cond.selects "LogGrammar" ({ cls := "LogGrammar", name := "offer", desc := "(IIIII)I" } : Jvm.MethodName) ({ cls := "LogGrammar", name := "offer", desc := "(IIIII)I" } : Jvm.MethodName)) ∈ lw_all := lw_g (lw_at lw_m5 156 rfl) rfl
theorem q1189 : (Jvm.Cond.code ({ cls := "LogGrammar", name := "offer", desc := "(IIIII)I" } : Jvm.MethodName) prog_1_method_8_code (7 : Nat) (Option.some Jvm.ClassFile.FieldType.int)) ∈ lw_all := lw_g (lw_at lw_m5 157 rfl) rfl
theorem q1190 : (Jvm.Cond.methodLink "LogGrammar" (85 : Nat) ({ cls := "LogGrammar", name := "isBarred", desc := "(LLogGrammar$Event;)Z" } : Jvm.MethodName)) ∈ lw_all := lw_g (lw_at lw_m5 158 rfl) rfl
theorem q1191 : (Jvm.Cond.privateMethod ({ cls := "LogGrammar", name := "isBarred", desc := "(LLogGrammar$Event;)Z" } : Jvm.MethodName)) ∈ lw_tbl := lw_at lw_m5 159 rfl
theorem q1192 : (Jvm.Cond.instanceMethod ({ cls := "LogGrammar", name := "isBarred", desc := "(LLogGrammar$Event;)Z" } : Jvm.MethodName)) ∈ lw_all := lw_g (lw_at lw_m5 160 rfl) rfl
theorem q1193 : (Jvm.Cond.code ({ cls := "LogGrammar", name := "isBarred", desc := "(LLogGrammar$Event;)Z" } : Jvm.MethodName) prog_1_method_58_code (8 : Nat) (Option.some Jvm.ClassFile.FieldType.boolean)) ∈ lw_all := lw_g (lw_at lw_m5 161 rfl) rfl
theorem q1194 : (Jvm.Cond.methodLink "LogGrammar" (319 : Nat) ({ cls := "java/util/ArrayList", name := "<init>", desc := "(Ljava/util/Collection;)V" } : Jvm.MethodName)) ∈ lw_all := lw_g (lw_at lw_m5 162 rfl) rfl
theorem q1218 : (Jvm.Cond.methodLink "LogGrammar" (325 : Nat) ({ cls := "LogGrammar", name := "ids", desc := "()I" } : Jvm.MethodName)) ∈ lw_all := lw_g (lw_at lw_m5 186 rfl) rfl
theorem q1219 : (Jvm.Cond.methodLink "LogGrammar" (331 : Nat) ({ cls := "LogGrammar$Monitor", name := "answersIn", desc := "(Ljava/util/List;I)V" } : Jvm.MethodName)) ∈ lw_all := lw_g (lw_at lw_m5 187 rfl) rfl
theorem q1220 : (Jvm.Cond.classLink "LogGrammar" (233 : Nat) "LogGrammar$Pair") ∈ lw_all := lw_g (lw_at lw_m5 188 rfl) rfl
theorem q1221 : (Jvm.Cond.classLink "LogGrammar" (239 : Nat) "java/lang/Integer") ∈ lw_all := lw_g (lw_at lw_m5 189 rfl) rfl
theorem q1222 : (Jvm.Cond.methodLink "LogGrammar" (241 : Nat) ({ cls := "java/lang/Integer", name := "intValue", desc := "()I" } : Jvm.MethodName)) ∈ lw_all := lw_g (lw_at lw_m5 190 rfl) rfl
theorem q1227 : (Jvm.Cond.instanceMethod ({ cls := "LogGrammar", name := "close", desc := "()I" } : Jvm.MethodName)) ∈ lw_all := lw_g (lw_at lw_m5 195 rfl) rfl
theorem q1228 : (Jvm.Cond.selects "LogGrammar" ({ cls := "LogGrammar", name := "close", desc := "()I" } : Jvm.MethodName) ({ cls := "LogGrammar", name := "close", desc := "()I" } : Jvm.MethodName)) ∈ lw_all := lw_g (lw_at lw_m5 196 rfl) rfl
theorem q1229 : (Jvm.Cond.code ({ cls := "LogGrammar", name := "close", desc := "()I" } : Jvm.MethodName) prog_1_method_9_code (2 : Nat) (Option.some Jvm.ClassFile.FieldType.int)) ∈ lw_all := lw_g (lw_at lw_m5 197 rfl) rfl
theorem q1230 : (Jvm.Cond.methodLink "LogGrammar" (95 : Nat) ({ cls := "LogGrammar", name := "openMany", desc := "()I" } : Jvm.MethodName)) ∈ lw_all := lw_g (lw_at lw_m5 198 rfl) rfl
theorem q1231 : (Jvm.Cond.privateMethod ({ cls := "LogGrammar", name := "openMany", desc := "()I" } : Jvm.MethodName)) ∈ lw_tbl := lw_at lw_m5 199 rfl
theorem q1232 : (Jvm.Cond.instanceMethod ({ cls := "LogGrammar", name := "openMany", desc := "()I" } : Jvm.MethodName)) ∈ lw_all := lw_g (lw_at lw_m5 200 rfl) rfl
theorem q1233 : (Jvm.Cond.code ({ cls := "LogGrammar", name := "openMany", desc := "()I" } : Jvm.MethodName) prog_1_method_62_code (6 : Nat) (Option.some Jvm.ClassFile.FieldType.int)) ∈ lw_all := lw_g (lw_at lw_m5 201 rfl) rfl
theorem q1238 : (Jvm.Cond.instanceMethod ({ cls := "LogGrammar", name := "kindIs", desc := "(I)I" } : Jvm.MethodName)) ∈ lw_all := lw_g (lw_at lw_m5 206 rfl) rfl
theorem q1239 : (Jvm.Cond.selects "LogGrammar" ({ cls := "LogGrammar", name := "kindIs", desc := "(I)I" } : Jvm.MethodName) ({ cls := "LogGrammar", name := "kindIs", desc := "(I)I" } : Jvm.MethodName)) ∈ lw_all := lw_g (lw_at lw_m5 207 rfl) rfl
theorem q1240 : (Jvm.Cond.code ({ cls := "LogGrammar", name := "kindIs", desc := "(I)I" } : Jvm.MethodName) prog_1_method_10_code (2 : Nat) (Option.some Jvm.ClassFile.FieldType.int)) ∈ lw_all := lw_g (lw_at lw_m5 208 rfl) rfl
theorem q1242 : (Jvm.Cond.fieldLink "LogGrammar" (104 : Nat) "LogGrammar$Sort" "KIND" "LLogGrammar$Sort;") ∈ lw_all := lw_g (lw_at lw_m5 210 rfl) rfl
theorem q1244 : (Jvm.Cond.methodLink "LogGrammar" (110 : Nat) ({ cls := "LogGrammar$Formula", name := "<init>", desc := "(LLogGrammar$Sort;IILLogGrammar$Formula;LLogGrammar$Formula;)V" } : Jvm.MethodName)) ∈ lw_all := lw_g (lw_at lw_m5 212 rfl) rfl
theorem q1259 : (Jvm.Cond.fieldLinkNest "LogGrammar" (337 : Nat) "LogGrammar$Formula" "size" "I" "LogGrammar") ∈ lw_tbl := lw_at lw_m5 227 rfl
theorem q1278 : (Jvm.Cond.methodLink "LogGrammar" (113 : Nat) ({ cls := "LogGrammar", name := "put", desc := "(LLogGrammar$Formula;)I" } : Jvm.MethodName)) ∈ lw_all := lw_g (lw_at lw_m6 6 rfl) rfl
theorem q1279 : (Jvm.Cond.privateMethod ({ cls := "LogGrammar", name := "put", desc := "(LLogGrammar$Formula;)I" } : Jvm.MethodName)) ∈ lw_tbl := lw_at lw_m6 7 rfl
theorem q1280 : (Jvm.Cond.instanceMethod ({ cls := "LogGrammar", name := "put", desc := "(LLogGrammar$Formula;)I" } : Jvm.MethodName)) ∈ lw_all := lw_g (lw_at lw_m6 8 rfl) rfl
theorem q1281 : (Jvm.Cond.code ({ cls := "LogGrammar", name := "put", desc := "(LLogGrammar$Formula;)I" } : Jvm.MethodName) prog_1_method_63_code (2 : Nat) (Option.some Jvm.ClassFile.FieldType.int)) ∈ lw_all := lw_g (lw_at lw_m6 9 rfl) rfl
theorem q1286 : (Jvm.Cond.instanceMethod ({ cls := "LogGrammar", name := "valueIs", desc := "(II)I" } : Jvm.MethodName)) ∈ lw_all := lw_g (lw_at lw_m6 14 rfl) rfl
theorem q1287 : (Jvm.Cond.selects "LogGrammar" ({ cls := "LogGrammar", name := "valueIs", desc := "(II)I" } : Jvm.MethodName) ({ cls := "LogGrammar", name := "valueIs", desc := "(II)I" } : Jvm.MethodName)) ∈ lw_all := lw_g (lw_at lw_m6 15 rfl) rfl
theorem q1288 : (Jvm.Cond.code ({ cls := "LogGrammar", name := "valueIs", desc := "(II)I" } : Jvm.MethodName) prog_1_method_11_code (3 : Nat) (Option.some Jvm.ClassFile.FieldType.int)) ∈ lw_all := lw_g (lw_at lw_m6 16 rfl) rfl
theorem q1289 : (Jvm.Cond.fieldLink "LogGrammar" (117 : Nat) "LogGrammar$Sort" "VALUE" "LLogGrammar$Sort;") ∈ lw_all := lw_g (lw_at lw_m6 17 rfl) rfl
theorem q1295 : (Jvm.Cond.instanceMethod ({ cls := "LogGrammar", name := "not", desc := "()I" } : Jvm.MethodName)) ∈ lw_all := lw_g (lw_at lw_m6 23 rfl) rfl
theorem q1296 : (Jvm.Cond.selects "LogGrammar" ({ cls := "LogGrammar", name := "not", desc := "()I" } : Jvm.MethodName) ({ cls := "LogGrammar", name := "not", desc := "()I" } : Jvm.MethodName)) ∈ lw_all := lw_g (lw_at lw_m6 24 rfl) rfl
theorem q1297 : (Jvm.Cond.code ({ cls := "LogGrammar", name := "not", desc := "()I" } : Jvm.MethodName) prog_1_method_12_code (1 : Nat) (Option.some Jvm.ClassFile.FieldType.int)) ∈ lw_all := lw_g (lw_at lw_m6 25 rfl) rfl
theorem q1298 : (Jvm.Cond.fieldLink "LogGrammar" (120 : Nat) "LogGrammar$Sort" "NOT" "LLogGrammar$Sort;") ∈ lw_all := lw_g (lw_at lw_m6 26 rfl) rfl
theorem q1300 : (Jvm.Cond.methodLink "LogGrammar" (123 : Nat) ({ cls := "LogGrammar", name := "join", desc := "(LLogGrammar$Sort;III)I" } : Jvm.MethodName)) ∈ lw_all := lw_g (lw_at lw_m6 28 rfl) rfl
theorem q1301 : (Jvm.Cond.privateMethod ({ cls := "LogGrammar", name := "join", desc := "(LLogGrammar$Sort;III)I" } : Jvm.MethodName)) ∈ lw_tbl := lw_at lw_m6 29 rfl
theorem q1302 : (Jvm.Cond.instanceMethod ({ cls := "LogGrammar", name := "join", desc := "(LLogGrammar$Sort;III)I" } : Jvm.MethodName)) ∈ lw_all := lw_g (lw_at lw_m6 30 rfl) rfl
theorem q1303 : (Jvm.Cond.code ({ cls := "LogGrammar", name := "join", desc := "(LLogGrammar$Sort;III)I" } : Jvm.MethodName) prog_1_method_64_code (9 : Nat) (Option.some Jvm.ClassFile.FieldType.int)) ∈ lw_all := lw_g (lw_at lw_m6 31 rfl) rfl
theorem q1304 : (Jvm.Cond.interfaceEntry "LogGrammar" (165 : Nat)) ∈ lw_tbl := lw_at lw_m6 32 rfl
theorem q1305 : (Jvm.Cond.methodLink "LogGrammar" (165 : Nat) ({ cls := "java/util/List", name := "remove", desc := "(I)Ljava/lang/Object;" } : Jvm.MethodName)) ∈ lw_all := lw_g (lw_at lw_m6 33 rfl) rfl
theorem q1310 : (Jvm.Cond.instanceMethod ({ cls := "LogGrammar", name := "both", desc := "()I" } : Jvm.MethodName)) ∈ lw_all := lw_g (lw_at lw_m6 38 rfl) rfl
theorem q1311 : (Jvm.Cond.selects "LogGrammar" ({ cls := "LogGrammar", name := "both", desc := "()I" } : Jvm.MethodName) ({ cls := "LogGrammar", name := "both", desc := "()I" } : Jvm.MethodName)) ∈ lw_all := lw_g (lw_at lw_m6 39 rfl) rfl
theorem q1312 : (Jvm.Cond.code ({ cls := "LogGrammar", name := "both", desc := "()I" } : Jvm.MethodName) prog_1_method_13_code (1 : Nat) (Option.some Jvm.ClassFile.FieldType.int)) ∈ lw_all := lw_g (lw_at lw_m6 40 rfl) rfl
theorem q1313 : (Jvm.Cond.fieldLink "LogGrammar" (127 : Nat) "LogGrammar$Sort" "BOTH" "LLogGrammar$Sort;") ∈ lw_all := lw_g (lw_at lw_m6 41 rfl) rfl
theorem q1319 : (Jvm.Cond.instanceMethod ({ cls := "LogGrammar", name := "either", desc := "()I" } : Jvm.MethodName)) ∈ lw_all := lw_g (lw_at lw_m6 47 rfl) rfl
theorem q1320 : (Jvm.Cond.selects "LogGrammar" ({ cls := "LogGrammar", name := "either", desc := "()I" } : Jvm.MethodName) ({ cls := "LogGrammar", name := "either", desc := "()I" } : Jvm.MethodName)) ∈ lw_all := lw_g (lw_at lw_m6 48 rfl) rfl
theorem q1321 : (Jvm.Cond.code ({ cls := "LogGrammar", name := "either", desc := "()I" } : Jvm.MethodName) prog_1_method_14_code (1 : Nat) (Option.some Jvm.ClassFile.FieldType.int)) ∈ lw_all := lw_g (lw_at lw_m6 49 rfl) rfl
theorem q1322 : (Jvm.Cond.fieldLink "LogGrammar" (130 : Nat) "LogGrammar$Sort" "EITHER" "LLogGrammar$Sort;") ∈ lw_all := lw_g (lw_at lw_m6 50 rfl) rfl
theorem q1328 : (Jvm.Cond.instanceMethod ({ cls := "LogGrammar", name := "before", desc := "()I" } : Jvm.MethodName)) ∈ lw_all := lw_g (lw_at lw_m6 56 rfl) rfl
theorem q1329 : (Jvm.Cond.selects "LogGrammar" ({ cls := "LogGrammar", name := "before", desc := "()I" } : Jvm.MethodName) ({ cls := "LogGrammar", name := "before", desc := "()I" } : Jvm.MethodName)) ∈ lw_all := lw_g (lw_at lw_m6 57 rfl) rfl
theorem q1330 : (Jvm.Cond.code ({ cls := "LogGrammar", name := "before", desc := "()I" } : Jvm.MethodName) prog_1_method_15_code (1 : Nat) (Option.some Jvm.ClassFile.FieldType.int)) ∈ lw_all := lw_g (lw_at lw_m6 58 rfl) rfl
theorem q1331 : (Jvm.Cond.fieldLink "LogGrammar" (133 : Nat) "LogGrammar$Sort" "BEFORE" "LLogGrammar$Sort;") ∈ lw_all := lw_g (lw_at lw_m6 59 rfl) rfl
theorem q1337 : (Jvm.Cond.instanceMethod ({ cls := "LogGrammar", name := "since", desc := "(I)I" } : Jvm.MethodName)) ∈ lw_all := lw_g (lw_at lw_m6 65 rfl) rfl
theorem q1338 : (Jvm.Cond.selects "LogGrammar" ({ cls := "LogGrammar", name := "since", desc := "(I)I" } : Jvm.MethodName) ({ cls := "LogGrammar", name := "since", desc := "(I)I" } : Jvm.MethodName)) ∈ lw_all := lw_g (lw_at lw_m6 66 rfl) rfl
theorem q1339 : (Jvm.Cond.code ({ cls := "LogGrammar", name := "since", desc := "(I)I" } : Jvm.MethodName) prog_1_method_16_code (2 : Nat) (Option.some Jvm.ClassFile.FieldType.int)) ∈ lw_all := lw_g (lw_at lw_m6 67 rfl) rfl
theorem q1340 : (Jvm.Cond.methodLink "LogGrammar" (136 : Nat) ({ cls := "LogGrammar", name := "isBound", desc := "(I)Z" } : Jvm.MethodName)) ∈ lw_all := lw_g (lw_at lw_m6 68 rfl) rfl
theorem q1341 : (Jvm.Cond.static ({ cls := "LogGrammar", name := "isBound", desc := "(I)Z" } : Jvm.MethodName)) ∈ lw_all := lw_g (lw_at lw_m6 69 rfl) rfl
theorem q1342 : (Jvm.Cond.code ({ cls := "LogGrammar", name := "isBound", desc := "(I)Z" } : Jvm.MethodName) prog_1_method_52_code (1 : Nat) (Option.some Jvm.ClassFile.FieldType.boolean)) ∈ lw_all := lw_g (lw_at lw_m6 70 rfl) rfl
theorem q1343 : (Jvm.Cond.fieldLink "LogGrammar" (139 : Nat) "LogGrammar$Sort" "SINCE" "LLogGrammar$Sort;") ∈ lw_all := lw_g (lw_at lw_m6 71 rfl) rfl
theorem q1349 : (Jvm.Cond.instanceMethod ({ cls := "LogGrammar", name := "once", desc := "(I)I" } : Jvm.MethodName)) ∈ lw_all := lw_g (lw_at lw_m6 77 rfl) rfl
theorem q1350 : (Jvm.Cond.selects "LogGrammar" ({ cls := "LogGrammar", name := "once", desc := "(I)I" } : Jvm.MethodName) ({ cls := "LogGrammar", name := "once", desc := "(I)I" } : Jvm.MethodName)) ∈ lw_all := lw_g (lw_at lw_m6 78 rfl) rfl
theorem q1351 : (Jvm.Cond.code ({ cls := "LogGrammar", name := "once", desc := "(I)I" } : Jvm.MethodName) prog_1_method_17_code (2 : Nat) (Option.some Jvm.ClassFile.FieldType.int)) ∈ lw_all := lw_g (lw_at lw_m6 79 rfl) rfl
theorem q1352 : (Jvm.Cond.fieldLink "LogGrammar" (142 : Nat) "LogGrammar$Sort" "ONCE" "LLogGrammar$Sort;") ∈ lw_all := lw_g (lw_at lw_m6 80 rfl) rfl
theorem q1357 : (Jvm.Cond.instanceMethod ({ cls := "LogGrammar", name := "next", desc := "()I" } : Jvm.MethodName)) ∈ lw_all := lw_g (lw_at lw_m6 85 rfl) rfl
theorem q1358 : (Jvm.Cond.selects "LogGrammar" ({ cls := "LogGrammar", name := "next", desc := "()I" } : Jvm.MethodName) ({ cls := "LogGrammar", name := "next", desc := "()I" } : Jvm.MethodName)) ∈ lw_all := lw_g (lw_at lw_m6 86 rfl) rfl
theorem q1359 : (Jvm.Cond.code ({ cls := "LogGrammar", name := "next", desc := "()I" } : Jvm.MethodName) prog_1_method_18_code (1 : Nat) (Option.some Jvm.ClassFile.FieldType.int)) ∈ lw_all := lw_g (lw_at lw_m6 87 rfl) rfl
theorem q1360 : (Jvm.Cond.fieldLink "LogGrammar" (145 : Nat) "LogGrammar$Sort" "NEXT" "LLogGrammar$Sort;") ∈ lw_all := lw_g (lw_at lw_m6 88 rfl) rfl
theorem q1366 : (Jvm.Cond.instanceMethod ({ cls := "LogGrammar", name := "until", desc := "(I)I" } : Jvm.MethodName)) ∈ lw_all := lw_g (lw_at lw_m6 94 rfl) rfl
theorem q1367 : (Jvm.Cond.selects "LogGrammar" ({ cls := "LogGrammar", name := "until", desc := "(I)I" } : Jvm.MethodName) ({ cls := "LogGrammar", name := "until", desc := "(I)I" } : Jvm.MethodName)) ∈ lw_all := lw_g (lw_at lw_m6 95 rfl) rfl
theorem q1368 : (Jvm.Cond.code ({ cls := "LogGrammar", name := "until", desc := "(I)I" } : Jvm.MethodName) prog_1_method_19_code (2 : Nat) (Option.some Jvm.ClassFile.FieldType.int)) ∈ lw_all := lw_g (lw_at lw_m6 96 rfl) rfl
theorem q1369 : (Jvm.Cond.fieldLink "LogGrammar" (148 : Nat) "LogGrammar$Sort" "UNTIL" "LLogGrammar$Sort;") ∈ lw_all := lw_g (lw_at lw_m6 97 rfl) rfl
theorem q1375 : (Jvm.Cond.instanceMethod ({ cls := "LogGrammar", name := "soon", desc := "(I)I" } : Jvm.MethodName)) ∈ lw_all := lw_g (lw_at lw_m6 103 rfl) rfl
theorem q1376 : (Jvm.Cond.selects "LogGrammar" ({ cls := "LogGrammar", name := "soon", desc := "(I)I" } : Jvm.MethodName) ({ cls := "LogGrammar", name := "soon", desc := "(I)I" } : Jvm.MethodName)) ∈ lw_all := lw_g (lw_at lw_m6 104 rfl) rfl
theorem q1377 : (Jvm.Cond.code ({ cls := "LogGrammar", name := "soon", desc := "(I)I" } : Jvm.MethodName) prog_1_method_20_code (2 : Nat) (Option.some Jvm.ClassFile.FieldType.int)) ∈ lw_all := lw_g (lw_at lw_m6 105 rfl) rfl
theorem q1378 : (Jvm.Cond.fieldLink "LogGrammar" (151 : Nat) "LogGrammar$Sort" "SOON" "LLogGrammar$Sort;") ∈ lw_all := lw_g (lw_at lw_m6 106 rfl) rfl
theorem q1383 : (Jvm.Cond.instanceMethod ({ cls := "LogGrammar", name := "many", desc := "(II)I" } : Jvm.MethodName)) ∈ lw_all := lw_g (lw_at lw_m6 111 rfl) rfl
theorem q1384 : (Jvm.Cond.selects "LogGrammar" ({ cls := "LogGrammar", name := "many", desc := "(II)I" } : Jvm.MethodName) ({ cls := "LogGrammar", name := "many", desc := "(II)I" } : Jvm.MethodName)) ∈ lw_all := lw_g (lw_at lw_m6 112 rfl) rfl
theorem q1385 : (Jvm.Cond.code ({ cls := "LogGrammar", name := "many", desc := "(II)I" } : Jvm.MethodName) prog_1_method_21_code (3 : Nat) (Option.some Jvm.ClassFile.FieldType.int)) ∈ lw_all := lw_g (lw_at lw_m6 113 rfl) rfl
theorem q1386 : (Jvm.Cond.fieldLink "LogGrammar" (154 : Nat) "LogGrammar$Sort" "MANY" "LLogGrammar$Sort;") ∈ lw_all := lw_g (lw_at lw_m6 114 rfl) rfl
theorem q1392 : (Jvm.Cond.instanceMethod ({ cls := "LogGrammar", name := "watch", desc := "(ZZ)I" } : Jvm.MethodName)) ∈ lw_all := lw_g (lw_at lw_m6 120 rfl) rfl
theorem q1393 : (Jvm.Cond.selects "LogGrammar" ({ cls := "LogGrammar", name := "watch", desc := "(ZZ)I" } : Jvm.MethodName) ({ cls := "LogGrammar", name := "watch", desc := "(ZZ)I" } : Jvm.MethodName)) ∈ lw_all := lw_g (lw_at lw_m6 121 rfl) rfl
theorem q1394 : (Jvm.Cond.code ({ cls := "LogGrammar", name := "watch", desc := "(ZZ)I" } : Jvm.MethodName) prog_1_method_23_code (3 : Nat) (Option.some Jvm.ClassFile.FieldType.int)) ∈ lw_all := lw_g (lw_at lw_m6 122 rfl) rfl
theorem q1395 : (Jvm.Cond.methodLink "LogGrammar" (169 : Nat) ({ cls := "LogGrammar$Monitor", name := "<init>", desc := "(LLogGrammar;LLogGrammar$Formula;ZZ)V" } : Jvm.MethodName)) ∈ lw_all := lw_g (lw_at lw_m6 123 rfl) rfl
theorem q1435 : (Jvm.Cond.fieldLinkNest "LogGrammar" (254 : Nat) "LogGrammar$Monitor" "formula" "LLogGrammar$Formula;" "LogGrammar") ∈ lw_tbl := lw_at lw_m6 163 rfl
theorem q1437 : (Jvm.Cond.fieldLinkNest "LogGrammar" (262 : Nat) "LogGrammar$Monitor" "parts" "Ljava/util/List;" "LogGrammar") ∈ lw_tbl := lw_at lw_m6 165 rfl
theorem q1441 : (Jvm.Cond.fieldLinkNest "LogGrammar" (322 : Nat) "LogGrammar$Monitor" "isGuard" "Z" "LogGrammar") ∈ lw_tbl := lw_at lw_m6 169 rfl
theorem q1443 : (Jvm.Cond.fieldLinkNest "LogGrammar" (230 : Nat) "LogGrammar$Monitor" "known" "Ljava/util/List;" "LogGrammar") ∈ lw_tbl := lw_at lw_m6 171 rfl
theorem q1445 : (Jvm.Cond.fieldLinkNest "LogGrammar" (251 : Nat) "LogGrammar$Monitor" "takenBack" "I" "LogGrammar") ∈ lw_tbl := lw_at lw_m6 173 rfl
theorem q1468 : (Jvm.Cond.instanceMethod ({ cls := "LogGrammar", name := "eventAt", desc := "(I)I" } : Jvm.MethodName)) ∈ lw_all := lw_g (lw_at lw_m6 196 rfl) rfl
theorem q1469 : (Jvm.Cond.selects "LogGrammar" ({ cls := "LogGrammar", name := "eventAt", desc := "(I)I" } : Jvm.MethodName) ({ cls := "LogGrammar", name := "eventAt", desc := "(I)I" } : Jvm.MethodName)) ∈ lw_all := lw_g (lw_at lw_m6 197 rfl) rfl
theorem q1470 : (Jvm.Cond.code ({ cls := "LogGrammar", name := "eventAt", desc := "(I)I" } : Jvm.MethodName) prog_1_method_27_code (2 : Nat) (Option.some Jvm.ClassFile.FieldType.int)) ∈ lw_all := lw_g (lw_at lw_m6 198 rfl) rfl
theorem q1475 : (Jvm.Cond.instanceMethod ({ cls := "LogGrammar", name := "timeOf", desc := "(I)I" } : Jvm.MethodName)) ∈ lw_all := lw_g (lw_at lw_m6 203 rfl) rfl
theorem q1476 : (Jvm.Cond.selects "LogGrammar" ({ cls := "LogGrammar", name := "timeOf", desc := "(I)I" } : Jvm.MethodName) ({ cls := "LogGrammar", name := "timeOf", desc := "(I)I" } : Jvm.MethodName)) ∈ lw_all := lw_g (lw_at lw_m6 204 rfl) rfl
theorem q1477 : (Jvm.Cond.code ({ cls := "LogGrammar", name := "timeOf", desc := "(I)I" } : Jvm.MethodName) prog_1_method_28_code (2 : Nat) (Option.some Jvm.ClassFile.FieldType.int)) ∈ lw_all := lw_g (lw_at lw_m6 205 rfl) rfl
theorem q1478 : (Jvm.Cond.methodLink "LogGrammar" (178 : Nat) ({ cls := "LogGrammar", name := "its", desc := "(I)LLogGrammar$Event;" } : Jvm.MethodName)) ∈ lw_all := lw_g (lw_at lw_m6 206 rfl) rfl
theorem q1479 : (Jvm.Cond.privateMethod ({ cls := "LogGrammar", name := "its", desc := "(I)LLogGrammar$Event;" } : Jvm.MethodName)) ∈ lw_tbl := lw_at lw_m6 207 rfl
theorem q1480 : (Jvm.Cond.instanceMethod ({ cls := "LogGrammar", name := "its", desc := "(I)LLogGrammar$Event;" } : Jvm.MethodName)) ∈ lw_all := lw_g (lw_at lw_m6 208 rfl) rfl
theorem q1481 : (Jvm.Cond.code ({ cls := "LogGrammar", name := "its", desc := "(I)LLogGrammar$Event;" } : Jvm.MethodName) prog_1_method_53_code (2 : Nat) (Option.some (Jvm.ClassFile.FieldType.object "LogGrammar$Event"))) ∈ lw_all := lw_g (lw_at lw_m6 209 rfl) rfl
theorem q1486 : (Jvm.Cond.instanceMethod ({ cls := "LogGrammar", name := "isLate", desc := "(I)Z" } : Jvm.MethodName)) ∈ lw_all := lw_g (lw_at lw_m6 214 rfl) rfl
theorem q1487 : (Jvm.Cond.selects "LogGrammar" ({ cls := "LogGrammar", name := "isLate", desc := "(I)Z" } : Jvm.MethodName) ({ cls := "LogGrammar", name := "isLate", desc := "(I)Z" } : Jvm.MethodName)) ∈ lw_all := lw_g (lw_at lw_m6 215 rfl) rfl
theorem q1488 : (Jvm.Cond.code ({ cls := "LogGrammar", name := "isLate", desc := "(I)Z" } : Jvm.MethodName) prog_1_method_29_code (2 : Nat) (Option.some Jvm.ClassFile.FieldType.boolean)) ∈ lw_all := lw_g (lw_at lw_m6 216 rfl) rfl
theorem q1493 : (Jvm.Cond.instanceMethod ({ cls := "LogGrammar", name := "count", desc := "(III)I" } : Jvm.MethodName)) ∈ lw_all := lw_g (lw_at lw_m6 221 rfl) rfl
theorem q1494 : (Jvm.Cond.selects "LogGrammar" ({ cls := "LogGrammar", name := "count", desc := "(III)I" } : Jvm.MethodName) ({ cls := "LogGrammar", name := "count", desc := "(III)I" } : Jvm.MethodName)) ∈ lw_all := lw_g (lw_at lw_m6 222 rfl) rfl
theorem q1495 : (Jvm.Cond.code ({ cls := "LogGrammar", name := "count", desc := "(III)I" } : Jvm.MethodName) prog_1_method_30_code (5 : Nat) (Option.some Jvm.ClassFile.FieldType.int)) ∈ lw_all := lw_g (lw_at lw_m6 223 rfl) rfl
theorem q1496 : (Jvm.Cond.methodLink "LogGrammar" (188 : Nat) ({ cls := "LogGrammar$Tree", name := "over", desc := "(II)LLogGrammar$Summary;" } : Jvm.MethodName)) ∈ lw_all := lw_g (lw_at lw_m6 224 rfl) rfl
theorem q1505 : (Jvm.Cond.instanceMethod ({ cls := "LogGrammar", name := "greatest", desc := "(III)I" } : Jvm.MethodName)) ∈ lw_all := lw_g (lw_at lw_m6 233 rfl) rfl
theorem q1506 : (Jvm.Cond.selects "LogGrammar" ({ cls := "LogGrammar", name := "greatest", desc := "(III)I" } : Jvm.MethodName) ({ cls := "LogGrammar", name := "greatest", desc := "(III)I" } : Jvm.MethodName)) ∈ lw_all := lw_g (lw_at lw_m6 234 rfl) rfl
theorem q1507 : (Jvm.Cond.code ({ cls := "LogGrammar", name := "greatest", desc := "(III)I" } : Jvm.MethodName) prog_1_method_31_code (5 : Nat) (Option.some Jvm.ClassFile.FieldType.int)) ∈ lw_all := lw_g (lw_at lw_m6 235 rfl) rfl
theorem q1512 : (Jvm.Cond.instanceMethod ({ cls := "LogGrammar", name := "greatestByAll", desc := "(III)I" } : Jvm.MethodName)) ∈ lw_all := lw_g (lw_at lw_m7 0 rfl) rfl
theorem q1513 : (Jvm.Cond.selects "LogGrammar" ({ cls := "LogGrammar", name := "greatestByAll", desc := "(III)I" } : Jvm.MethodName) ({ cls := "LogGrammar", name := "greatestByAll", desc := "(III)I" } : Jvm.MethodName)) ∈ lw_all := lw_g (lw_at lw_m7 1 rfl) rfl
theorem q1514 : (Jvm.Cond.code ({ cls := "LogGrammar", name := "greatestByAll", desc := "(III)I" } : Jvm.MethodName) prog_1_method_32_code (7 : Nat) (Option.some Jvm.ClassFile.FieldType.int)) ∈ lw_all := lw_g (lw_at lw_m7 2 rfl) rfl
theorem q1519 : (Jvm.Cond.instanceMethod ({ cls := "LogGrammar", name := "answer", desc := "(II)I" } : Jvm.MethodName)) ∈ lw_all := lw_g (lw_at lw_m7 7 rfl) rfl
theorem q1520 : (Jvm.Cond.selects "LogGrammar" ({ cls := "LogGrammar", name := "answer", desc := "(II)I" } : Jvm.MethodName) ({ cls := "LogGrammar", name := "answer", desc := "(II)I" } : Jvm.MethodName)) ∈ lw_all := lw_g (lw_at lw_m7 8 rfl) rfl
theorem q1521 : (Jvm.Cond.code ({ cls := "LogGrammar", name := "answer", desc := "(II)I" } : Jvm.MethodName) prog_1_method_33_code (4 : Nat) (Option.some Jvm.ClassFile.FieldType.int)) ∈ lw_all := lw_g (lw_at lw_m7 9 rfl) rfl
theorem q1522 : (Jvm.Cond.methodLink "LogGrammar" (226 : Nat) ({ cls := "LogGrammar", name := "monitor", desc := "(I)LLogGrammar$Monitor;" } : Jvm.MethodName)) ∈ lw_all := lw_g (lw_at lw_m7 10 rfl) rfl
theorem q1523 : (Jvm.Cond.privateMethod ({ cls := "LogGrammar", name := "monitor", desc := "(I)LLogGrammar$Monitor;" } : Jvm.MethodName)) ∈ lw_tbl := lw_at lw_m7 11 rfl
theorem q1524 : (Jvm.Cond.instanceMethod ({ cls := "LogGrammar", name := "monitor", desc := "(I)LLogGrammar$Monitor;" } : Jvm.MethodName)) ∈ lw_all := lw_g (lw_at lw_m7 12 rfl) rfl
theorem q1525 : (Jvm.Cond.code ({ cls := "LogGrammar", name := "monitor", desc := "(I)LLogGrammar$Monitor;" } : Jvm.MethodName) prog_1_method_54_code (2 : Nat) (Option.some (Jvm.ClassFile.FieldType.object "LogGrammar$Monitor"))) ∈ lw_all := lw_g (lw_at lw_m7 13 rfl) rfl
theorem q1530 : (Jvm.Cond.instanceMethod ({ cls := "LogGrammar", name := "answerAnew", desc := "(II)I" } : Jvm.MethodName)) ∈ lw_all := lw_g (lw_at lw_m7 18 rfl) rfl
theorem q1531 : (Jvm.Cond.selects "LogGrammar" ({ cls := "LogGrammar", name := "answerAnew", desc := "(II)I" } : Jvm.MethodName) ({ cls := "LogGrammar", name := "answerAnew", desc := "(II)I" } : Jvm.MethodName)) ∈ lw_all := lw_g (lw_at lw_m7 19 rfl) rfl
theorem q1532 : (Jvm.Cond.code ({ cls := "LogGrammar", name := "answerAnew", desc := "(II)I" } : Jvm.MethodName) prog_1_method_34_code (4 : Nat) (Option.some Jvm.ClassFile.FieldType.int)) ∈ lw_all := lw_g (lw_at lw_m7 20 rfl) rfl
theorem q1533 : (Jvm.Cond.methodLink "LogGrammar" (244 : Nat) ({ cls := "LogGrammar$Monitor", name := "answerFor", desc := "(LLogGrammar$Event;Ljava/util/List;Z)I" } : Jvm.MethodName)) ∈ lw_all := lw_g (lw_at lw_m7 21 rfl) rfl
theorem q1538 : (Jvm.Cond.instanceMethod ({ cls := "LogGrammar", name := "knownSince", desc := "(II)I" } : Jvm.MethodName)) ∈ lw_all := lw_g (lw_at lw_m7 26 rfl) rfl
theorem q1539 : (Jvm.Cond.selects "LogGrammar" ({ cls := "LogGrammar", name := "knownSince", desc := "(II)I" } : Jvm.MethodName) ({ cls := "LogGrammar", name := "knownSince", desc := "(II)I" } : Jvm.MethodName)) ∈ lw_all := lw_g (lw_at lw_m7 27 rfl) rfl
theorem q1540 : (Jvm.Cond.code ({ cls := "LogGrammar", name := "knownSince", desc := "(II)I" } : Jvm.MethodName) prog_1_method_35_code (4 : Nat) (Option.some Jvm.ClassFile.FieldType.int)) ∈ lw_all := lw_g (lw_at lw_m7 28 rfl) rfl
theorem q1545 : (Jvm.Cond.instanceMethod ({ cls := "LogGrammar", name := "answers", desc := "(II)I" } : Jvm.MethodName)) ∈ lw_all := lw_g (lw_at lw_m7 33 rfl) rfl
theorem q1546 : (Jvm.Cond.selects "LogGrammar" ({ cls := "LogGrammar", name := "answers", desc := "(II)I" } : Jvm.MethodName) ({ cls := "LogGrammar", name := "answers", desc := "(II)I" } : Jvm.MethodName)) ∈ lw_all := lw_g (lw_at lw_m7 34 rfl) rfl
theorem q1547 : (Jvm.Cond.code ({ cls := "LogGrammar", name := "answers", desc := "(II)I" } : Jvm.MethodName) prog_1_method_36_code (7 : Nat) (Option.some Jvm.ClassFile.FieldType.int)) ∈ lw_all := lw_g (lw_at lw_m7 35 rfl) rfl
theorem q1552 : (Jvm.Cond.instanceMethod ({ cls := "LogGrammar", name := "takenBack", desc := "(I)I" } : Jvm.MethodName)) ∈ lw_all := lw_g (lw_at lw_m7 40 rfl) rfl
theorem q1553 : (Jvm.Cond.selects "LogGrammar" ({ cls := "LogGrammar", name := "takenBack", desc := "(I)I" } : Jvm.MethodName) ({ cls := "LogGrammar", name := "takenBack", desc := "(I)I" } : Jvm.MethodName)) ∈ lw_all := lw_g (lw_at lw_m7 41 rfl) rfl
theorem q1554 : (Jvm.Cond.code ({ cls := "LogGrammar", name := "takenBack", desc := "(I)I" } : Jvm.MethodName) prog_1_method_37_code (2 : Nat) (Option.some Jvm.ClassFile.FieldType.int)) ∈ lw_all := lw_g (lw_at lw_m7 42 rfl) rfl
theorem q1559 : (Jvm.Cond.instanceMethod ({ cls := "LogGrammar", name := "back", desc := "(I)I" } : Jvm.MethodName)) ∈ lw_all := lw_g (lw_at lw_m7 47 rfl) rfl
theorem q1560 : (Jvm.Cond.selects "LogGrammar" ({ cls := "LogGrammar", name := "back", desc := "(I)I" } : Jvm.MethodName) ({ cls := "LogGrammar", name := "back", desc := "(I)I" } : Jvm.MethodName)) ∈ lw_all := lw_g (lw_at lw_m7 48 rfl) rfl
theorem q1561 : (Jvm.Cond.code ({ cls := "LogGrammar", name := "back", desc := "(I)I" } : Jvm.MethodName) prog_1_method_38_code (2 : Nat) (Option.some Jvm.ClassFile.FieldType.int)) ∈ lw_all := lw_g (lw_at lw_m7 49 rfl) rfl
theorem q1562 : (Jvm.Cond.methodLink "LogGrammar" (258 : Nat) ({ cls := "LogGrammar$Formula", name := "looks", desc := "(Z)I" } : Jvm.MethodName)) ∈ lw_all := lw_g (lw_at lw_m7 50 rfl) rfl
theorem q1579 : (Jvm.Cond.instanceMethod ({ cls := "LogGrammar", name := "ahead", desc := "(I)I" } : Jvm.MethodName)) ∈ lw_all := lw_g (lw_at lw_m7 67 rfl) rfl
theorem q1580 : (Jvm.Cond.selects "LogGrammar" ({ cls := "LogGrammar", name := "ahead", desc := "(I)I" } : Jvm.MethodName) ({ cls := "LogGrammar", name := "ahead", desc := "(I)I" } : Jvm.MethodName)) ∈ lw_all := lw_g (lw_at lw_m7 68 rfl) rfl
theorem q1581 : (Jvm.Cond.code ({ cls := "LogGrammar", name := "ahead", desc := "(I)I" } : Jvm.MethodName) prog_1_method_39_code (2 : Nat) (Option.some Jvm.ClassFile.FieldType.int)) ∈ lw_all := lw_g (lw_at lw_m7 69 rfl) rfl
theorem q1586 : (Jvm.Cond.instanceMethod ({ cls := "LogGrammar", name := "overOrders", desc := "(III)I" } : Jvm.MethodName)) ∈ lw_all := lw_g (lw_at lw_m7 74 rfl) rfl
theorem q1587 : (Jvm.Cond.selects "LogGrammar" ({ cls := "LogGrammar", name := "overOrders", desc := "(III)I" } : Jvm.MethodName) ({ cls := "LogGrammar", name := "overOrders", desc := "(III)I" } : Jvm.MethodName)) ∈ lw_all := lw_g (lw_at lw_m7 75 rfl) rfl
theorem q1588 : (Jvm.Cond.code ({ cls := "LogGrammar", name := "overOrders", desc := "(III)I" } : Jvm.MethodName) prog_1_method_42_code (7 : Nat) (Option.some Jvm.ClassFile.FieldType.int)) ∈ lw_all := lw_g (lw_at lw_m7 76 rfl) rfl
theorem q1593 : (Jvm.Cond.instanceMethod ({ cls := "LogGrammar", name := "explanation", desc := "(II)I" } : Jvm.MethodName)) ∈ lw_all := lw_g (lw_at lw_m7 81 rfl) rfl
theorem q1594 : (Jvm.Cond.selects "LogGrammar" ({ cls := "LogGrammar", name := "explanation", desc := "(II)I" } : Jvm.MethodName) ({ cls := "LogGrammar", name := "explanation", desc := "(II)I" } : Jvm.MethodName)) ∈ lw_all := lw_g (lw_at lw_m7 82 rfl) rfl
theorem q1595 : (Jvm.Cond.code ({ cls := "LogGrammar", name := "explanation", desc := "(II)I" } : Jvm.MethodName) prog_1_method_43_code (4 : Nat) (Option.some Jvm.ClassFile.FieldType.int)) ∈ lw_all := lw_g (lw_at lw_m7 83 rfl) rfl
theorem q1596 : (Jvm.Cond.methodLink "LogGrammar" (281 : Nat) ({ cls := "LogGrammar", name := "setFor", desc := "(IIZ)Ljava/util/List;" } : Jvm.MethodName)) ∈ lw_all := lw_g (lw_at lw_m7 84 rfl) rfl
theorem q1597 : (Jvm.Cond.privateMethod ({ cls := "LogGrammar", name := "setFor", desc := "(IIZ)Ljava/util/List;" } : Jvm.MethodName)) ∈ lw_tbl := lw_at lw_m7 85 rfl
theorem q1598 : (Jvm.Cond.instanceMethod ({ cls := "LogGrammar", name := "setFor", desc := "(IIZ)Ljava/util/List;" } : Jvm.MethodName)) ∈ lw_all := lw_g (lw_at lw_m7 86 rfl) rfl
theorem q1599 : (Jvm.Cond.code ({ cls := "LogGrammar", name := "setFor", desc := "(IIZ)Ljava/util/List;" } : Jvm.MethodName) prog_1_method_65_code (9 : Nat) (Option.some (Jvm.ClassFile.FieldType.object "java/util/List"))) ∈ lw_all := lw_g (lw_at lw_m7 87 rfl) rfl
theorem q1600 : (Jvm.Cond.methodLink "LogGrammar" (339 : Nat) ({ cls := "LogGrammar", name := "choose", desc := "(LLogGrammar$Monitor;LLogGrammar$Event;ZLjava/util/List;II)Ljava/util/List;" } : Jvm.MethodName)) ∈ lw_all := lw_g (lw_at lw_m7 88 rfl) rfl
theorem q1601 : (Jvm.Cond.privateMethod ({ cls := "LogGrammar", name := "choose", desc := "(LLogGrammar$Monitor;LLogGrammar$Event;ZLjava/util/List;II)Ljava/util/List;" } : Jvm.MethodName)) ∈ lw_tbl := lw_at lw_m7 89 rfl
theorem q1602 : (Jvm.Cond.instanceMethod ({ cls := "LogGrammar", name := "choose", desc := "(LLogGrammar$Monitor;LLogGrammar$Event;ZLjava/util/List;II)Ljava/util/List;" } : Jvm.MethodName)) ∈ lw_all := lw_g (lw_at lw_m7 90 rfl) rfl
theorem q1603 : (Jvm.Cond.code ({ cls := "LogGrammar", name := "choose", desc := "(LLogGrammar$Monitor;LLogGrammar$Event;ZLjava/util/List;II)Ljava/util/List;" } : Jvm.MethodName) prog_1_method_66_code (8 : Nat) (Option.some (Jvm.ClassFile.FieldType.object "java/util/List"))) ∈ lw_all := lw_g (lw_at lw_m7 91 rfl) rfl
theorem q1604 : (Jvm.Cond.methodLink "LogGrammar" (343 : Nat) ({ cls := "LogGrammar", name := "does", desc := "(LLogGrammar$Monitor;LLogGrammar$Event;ZLjava/util/List;)Z" } : Jvm.MethodName)) ∈ lw_all := lw_g (lw_at lw_m7 92 rfl) rfl
theorem q1605 : (Jvm.Cond.privateMethod ({ cls := "LogGrammar", name := "does", desc := "(LLogGrammar$Monitor;LLogGrammar$Event;ZLjava/util/List;)Z" } : Jvm.MethodName)) ∈ lw_tbl := lw_at lw_m7 93 rfl
theorem q1606 : (Jvm.Cond.instanceMethod ({ cls := "LogGrammar", name := "does", desc := "(LLogGrammar$Monitor;LLogGrammar$Event;ZLjava/util/List;)Z" } : Jvm.MethodName)) ∈ lw_all := lw_g (lw_at lw_m7 94 rfl) rfl
theorem q1607 : (Jvm.Cond.code ({ cls := "LogGrammar", name := "does", desc := "(LLogGrammar$Monitor;LLogGrammar$Event;ZLjava/util/List;)Z" } : Jvm.MethodName) prog_1_method_67_code (6 : Nat) (Option.some Jvm.ClassFile.FieldType.boolean)) ∈ lw_all := lw_g (lw_at lw_m7 95 rfl) rfl
theorem q1608 : (Jvm.Cond.interfaceEntry "LogGrammar" (347 : Nat)) ∈ lw_tbl := lw_at lw_m7 96 rfl
theorem q1609 : (Jvm.Cond.methodLink "LogGrammar" (347 : Nat) ({ cls := "java/util/List", name := "contains", desc := "(Ljava/lang/Object;)Z" } : Jvm.MethodName)) ∈ lw_all := lw_g (lw_at lw_m7 97 rfl) rfl
theorem q1614 : (Jvm.Cond.instanceMethod ({ cls := "LogGrammar", name := "explainedBy", desc := "(III)I" } : Jvm.MethodName)) ∈ lw_all := lw_g (lw_at lw_m7 102 rfl) rfl
theorem q1615 : (Jvm.Cond.selects "LogGrammar" ({ cls := "LogGrammar", name := "explainedBy", desc := "(III)I" } : Jvm.MethodName) ({ cls := "LogGrammar", name := "explainedBy", desc := "(III)I" } : Jvm.MethodName)) ∈ lw_all := lw_g (lw_at lw_m7 103 rfl) rfl
theorem q1616 : (Jvm.Cond.code ({ cls := "LogGrammar", name := "explainedBy", desc := "(III)I" } : Jvm.MethodName) prog_1_method_44_code (5 : Nat) (Option.some Jvm.ClassFile.FieldType.int)) ∈ lw_all := lw_g (lw_at lw_m7 104 rfl) rfl
theorem q1621 : (Jvm.Cond.instanceMethod ({ cls := "LogGrammar", name := "mend", desc := "(II)I" } : Jvm.MethodName)) ∈ lw_all := lw_g (lw_at lw_m7 109 rfl) rfl
theorem q1622 : (Jvm.Cond.selects "LogGrammar" ({ cls := "LogGrammar", name := "mend", desc := "(II)I" } : Jvm.MethodName) ({ cls := "LogGrammar", name := "mend", desc := "(II)I" } : Jvm.MethodName)) ∈ lw_all := lw_g (lw_at lw_m7 110 rfl) rfl
theorem q1623 : (Jvm.Cond.code ({ cls := "LogGrammar", name := "mend", desc := "(II)I" } : Jvm.MethodName) prog_1_method_45_code (4 : Nat) (Option.some Jvm.ClassFile.FieldType.int)) ∈ lw_all := lw_g (lw_at lw_m7 111 rfl) rfl
theorem q1628 : (Jvm.Cond.instanceMethod ({ cls := "LogGrammar", name := "mendedBy", desc := "(III)I" } : Jvm.MethodName)) ∈ lw_all := lw_g (lw_at lw_m7 116 rfl) rfl
theorem q1629 : (Jvm.Cond.selects "LogGrammar" ({ cls := "LogGrammar", name := "mendedBy", desc := "(III)I" } : Jvm.MethodName) ({ cls := "LogGrammar", name := "mendedBy", desc := "(III)I" } : Jvm.MethodName)) ∈ lw_all := lw_g (lw_at lw_m7 117 rfl) rfl
theorem q1630 : (Jvm.Cond.code ({ cls := "LogGrammar", name := "mendedBy", desc := "(III)I" } : Jvm.MethodName) prog_1_method_46_code (5 : Nat) (Option.some Jvm.ClassFile.FieldType.int)) ∈ lw_all := lw_g (lw_at lw_m7 118 rfl) rfl
theorem q2155 : (Jvm.Cond.castable "LogGrammar" "java/lang/Object") ∈ lw_tbl := lw_at lw_m9 163 rfl
theorem in_X1 : ∀ w ∈ wsX10, w ∈ lw_all := lw_in wsX10 [261, 263, 265, 267, 269, 271, 273, 275, 277, 279, 281, 283] (by decide +kernel) (by decide +kernel)
/-! LogGrammar$Orders -/
set_option maxRecDepth 100000
def RX10 : String := "LogGrammar$Orders"
def TX10 : u_T := fun k => match k with
  | 0 => ("LogGrammar$Orders", "begun", "Ljava/util/List;", true)
  | 1 => ("LogGrammar$Orders", "monitor", "LLogGrammar$Monitor;", true)
  | 2 => ("LogGrammar$Orders", "event", "LLogGrammar$Event;", true)
  | 3 => ("LogGrammar$Orders", "answer", "I", true)
  | 4 => ("LogGrammar$Orders", "many", "I", false)
  | 5 => ("LogGrammar$Orders", "having", "I", false)
  | _ => ("LogGrammar$Orders", "this$0", "LLogGrammar;", true)
def tyX10 : Nat → FieldType := fun k => match k with
  | 0 => .object "java/util/List"
  | 1 => .object "LogGrammar$Monitor"
  | 2 => .object "LogGrammar$Event"
  | 3 => .int
  | 4 => .int
  | 5 => .int
  | _ => .object "LogGrammar"
abbrev wsX100 : List Cond := u_ws RX10 TX10 7
theorem nmX10 : ∀ a, a < 7 → ∀ b, b < 7 → a ≠ b → (TX10 a).2.1 ≠ (TX10 b).2.1 := by decide +kernel
theorem tyX10_ok : ∀ k, k < 7 → parseFieldDescriptor (TX10 k).2.2.1 = some (tyX10 k) := by decide +kernel
abbrev cX10_init : ByteArray := prog_5_method_1_code
def yX10_init : MethodName := ⟨RX10, "<init>", "(LLogGrammar;LLogGrammar$Monitor;LLogGrammar$Event;I)V"⟩
def dkwX10_init_1 : List UInt8 := [181, 0, 22, 42, 45, 181, 0, 26, 42, 21, 4, 181, 0, 30, 177]
abbrev dktX10_init_1 : List UInt8 := dkwX10_init_1 ++ []
def dkwX10_init_0 : List UInt8 := [42, 43, 181, 0, 3, 42, 183, 0, 9, 42, 187, 0, 15, 89, 183, 0, 17, 181, 0, 18, 42, 44]
abbrev dktX10_init_0 : List UInt8 := dkwX10_init_0 ++ dktX10_init_1
theorem dksX10_init_0 : cX10_init.data.toList.drop 0 = dktX10_init_0 := by decide +kernel
theorem dksX10_init_1 : cX10_init.data.toList.drop 22 = dktX10_init_1 := dk_seg dksX10_init_0 22 rfl rfl
theorem dX10_init_0 : decode cX10_init 0 = .ok (.aload_n 0, 1) := dk_42 (dk_at dksX10_init_0 0 rfl rfl)
theorem dX10_init_1 : decode cX10_init 1 = .ok (.aload_n 1, 1) := dk_43 (dk_at dksX10_init_0 1 rfl rfl)
theorem dX10_init_2 : decode cX10_init 2 = .ok (.putfield 3, 3) := dk_181 0 3 (dk_at dksX10_init_0 2 rfl rfl)
theorem dX10_init_5 : decode cX10_init 5 = .ok (.aload_n 0, 1) := dk_42 (dk_at dksX10_init_0 5 rfl rfl)
theorem dX10_init_6 : decode cX10_init 6 = .ok (.invokespecial 9, 3) := dk_183 0 9 (dk_at dksX10_init_0 6 rfl rfl)
theorem dX10_init_9 : decode cX10_init 9 = .ok (.aload_n 0, 1) := dk_42 (dk_at dksX10_init_0 9 rfl rfl)
theorem dX10_init_10 : decode cX10_init 10 = .ok (.new 15, 3) := dk_187 0 15 (dk_at dksX10_init_0 10 rfl rfl)
theorem dX10_init_13 : decode cX10_init 13 = .ok (.dup, 1) := dk_89 (dk_at dksX10_init_0 13 rfl rfl)
theorem dX10_init_14 : decode cX10_init 14 = .ok (.invokespecial 17, 3) := dk_183 0 17 (dk_at dksX10_init_0 14 rfl rfl)
theorem dX10_init_17 : decode cX10_init 17 = .ok (.putfield 18, 3) := dk_181 0 18 (dk_at dksX10_init_0 17 rfl rfl)
theorem dX10_init_20 : decode cX10_init 20 = .ok (.aload_n 0, 1) := dk_42 (dk_at dksX10_init_0 20 rfl rfl)
theorem dX10_init_21 : decode cX10_init 21 = .ok (.aload_n 2, 1) := dk_44 (dk_at dksX10_init_0 21 rfl rfl)
theorem dX10_init_22 : decode cX10_init 22 = .ok (.putfield 22, 3) := dk_181 0 22 (dk_at dksX10_init_1 0 rfl rfl)
theorem dX10_init_25 : decode cX10_init 25 = .ok (.aload_n 0, 1) := dk_42 (dk_at dksX10_init_1 3 rfl rfl)
theorem dX10_init_26 : decode cX10_init 26 = .ok (.aload_n 3, 1) := dk_45 (dk_at dksX10_init_1 4 rfl rfl)
theorem dX10_init_27 : decode cX10_init 27 = .ok (.putfield 26, 3) := dk_181 0 26 (dk_at dksX10_init_1 5 rfl rfl)
theorem dX10_init_30 : decode cX10_init 30 = .ok (.aload_n 0, 1) := dk_42 (dk_at dksX10_init_1 8 rfl rfl)
theorem dX10_init_31 : decode cX10_init 31 = .ok (.iload 4, 2) := dk_21 4 (dk_at dksX10_init_1 9 rfl rfl)
theorem dX10_init_33 : decode cX10_init 33 = .ok (.putfield 30, 3) := dk_181 0 30 (dk_at dksX10_init_1 11 rfl rfl)
theorem dX10_init_36 : decode cX10_init 36 = .ok (.return_, 1) := dk_177 (dk_at dksX10_init_1 14 rfl rfl)
abbrev cX10_go : ByteArray := prog_5_method_2_code
def yX10_go : MethodName := ⟨RX10, "go", "()V"⟩
def dkwX10_go_11 : List UInt8 := [167, 255, 112, 177]
abbrev dktX10_go_11 : List UInt8 := dkwX10_go_11 ++ []
def dkwX10_go_10 : List UInt8 := [180, 0, 18, 42, 180, 0, 18, 185, 0, 34, 1, 0, 4, 100, 185, 0, 77, 2, 0, 87, 132, 2, 1]
abbrev dktX10_go_10 : List UInt8 := dkwX10_go_10 ++ dktX10_go_11
def dkwX10_go_9 : List UInt8 := [167, 255, 190, 45, 198, 0, 39, 42, 180, 0, 18, 45, 185, 0, 71, 2, 0, 87, 42, 182, 0, 74, 42]
abbrev dktX10_go_9 : List UInt8 := dkwX10_go_9 ++ dktX10_go_10
def dkwX10_go_8 : List UInt8 := [180, 0, 18, 25, 5, 185, 0, 67, 2, 0, 154, 0, 8, 25, 5, 167, 0, 4, 45, 78, 132, 4, 255]
abbrev dktX10_go_8 : List UInt8 := dkwX10_go_8 ++ dktX10_go_9
def dkwX10_go_7 : List UInt8 := [192, 0, 59, 58, 5, 25, 5, 180, 0, 61, 27, 160, 0, 31, 25, 5, 180, 0, 64, 28, 160, 0, 22, 42]
abbrev dktX10_go_7 : List UInt8 := dkwX10_go_7 ++ dktX10_go_8
def dkwX10_go_6 : List UInt8 := [100, 54, 4, 21, 4, 155, 0, 67, 42, 180, 0, 3, 180, 0, 40, 21, 4, 185, 0, 55, 2, 0]
abbrev dktX10_go_6 : List UInt8 := dkwX10_go_6 ++ dktX10_go_7
def dkwX10_go_5 : List UInt8 := [42, 180, 0, 43, 16, 120, 163, 0, 136, 1, 78, 42, 180, 0, 3, 180, 0, 40, 185, 0, 34, 1, 0, 4]
abbrev dktX10_go_5 : List UInt8 := dkwX10_go_5 ++ dktX10_go_6
def dkwX10_go_4 : List UInt8 := [185, 0, 34, 1, 0, 185, 0, 55, 2, 0, 192, 0, 59, 180, 0, 61, 60, 3, 61, 28, 7, 162, 0, 145]
abbrev dktX10_go_4 : List UInt8 := dkwX10_go_4 ++ dktX10_go_5
def dkwX10_go_3 : List UInt8 := [167, 0, 4, 3, 96, 181, 0, 46, 177, 42, 180, 0, 3, 180, 0, 40, 42, 180, 0, 18]
abbrev dktX10_go_3 : List UInt8 := dkwX10_go_3 ++ dktX10_go_4
def dkwX10_go_2 : List UInt8 := [180, 0, 22, 42, 180, 0, 26, 42, 180, 0, 18, 3, 182, 0, 49, 42, 180, 0, 30, 160, 0, 7, 4]
abbrev dktX10_go_2 : List UInt8 := dkwX10_go_2 ++ dktX10_go_3
def dkwX10_go_1 : List UInt8 := [42, 89, 180, 0, 43, 4, 96, 181, 0, 43, 42, 89, 180, 0, 46, 42, 180, 0, 22, 198, 0, 30, 42]
abbrev dktX10_go_1 : List UInt8 := dkwX10_go_1 ++ dktX10_go_2
def dkwX10_go_0 : List UInt8 := [42, 180, 0, 18, 185, 0, 34, 1, 0, 42, 180, 0, 3, 180, 0, 40, 185, 0, 34, 1, 0, 160, 0, 58]
abbrev dktX10_go_0 : List UInt8 := dkwX10_go_0 ++ dktX10_go_1
theorem dksX10_go_0 : cX10_go.data.toList.drop 0 = dktX10_go_0 := by decide +kernel
theorem dksX10_go_1 : cX10_go.data.toList.drop 24 = dktX10_go_1 := dk_seg dksX10_go_0 24 rfl rfl
theorem dksX10_go_2 : cX10_go.data.toList.drop 47 = dktX10_go_2 := dk_seg dksX10_go_1 23 rfl rfl
theorem dksX10_go_3 : cX10_go.data.toList.drop 70 = dktX10_go_3 := dk_seg dksX10_go_2 23 rfl rfl
theorem dksX10_go_4 : cX10_go.data.toList.drop 90 = dktX10_go_4 := dk_seg dksX10_go_3 20 rfl rfl
theorem dksX10_go_5 : cX10_go.data.toList.drop 114 = dktX10_go_5 := dk_seg dksX10_go_4 24 rfl rfl
theorem dksX10_go_6 : cX10_go.data.toList.drop 138 = dktX10_go_6 := dk_seg dksX10_go_5 24 rfl rfl
theorem dksX10_go_7 : cX10_go.data.toList.drop 160 = dktX10_go_7 := dk_seg dksX10_go_6 22 rfl rfl
theorem dksX10_go_8 : cX10_go.data.toList.drop 184 = dktX10_go_8 := dk_seg dksX10_go_7 24 rfl rfl
theorem dksX10_go_9 : cX10_go.data.toList.drop 207 = dktX10_go_9 := dk_seg dksX10_go_8 23 rfl rfl
theorem dksX10_go_10 : cX10_go.data.toList.drop 230 = dktX10_go_10 := dk_seg dksX10_go_9 23 rfl rfl
theorem dksX10_go_11 : cX10_go.data.toList.drop 253 = dktX10_go_11 := dk_seg dksX10_go_10 23 rfl rfl
theorem dX10_go_0 : decode cX10_go 0 = .ok (.aload_n 0, 1) := dk_42 (dk_at dksX10_go_0 0 rfl rfl)
theorem dX10_go_1 : decode cX10_go 1 = .ok (.getfield 18, 3) := dk_180 0 18 (dk_at dksX10_go_0 1 rfl rfl)
theorem dX10_go_4 : decode cX10_go 4 = .ok (.invokeinterface 34 1, 5) := by decide +kernel
theorem dX10_go_9 : decode cX10_go 9 = .ok (.aload_n 0, 1) := dk_42 (dk_at dksX10_go_0 9 rfl rfl)
theorem dX10_go_10 : decode cX10_go 10 = .ok (.getfield 3, 3) := dk_180 0 3 (dk_at dksX10_go_0 10 rfl rfl)
theorem dX10_go_13 : decode cX10_go 13 = .ok (.getfield 40, 3) := dk_180 0 40 (dk_at dksX10_go_0 13 rfl rfl)
theorem dX10_go_16 : decode cX10_go 16 = .ok (.invokeinterface 34 1, 5) := by decide +kernel
theorem dX10_go_21 : decode cX10_go 21 = .ok (.if_icmp .ne 58, 3) := dk_160 0 58 (dk_at dksX10_go_0 21 rfl rfl)
theorem dX10_go_24 : decode cX10_go 24 = .ok (.aload_n 0, 1) := dk_42 (dk_at dksX10_go_1 0 rfl rfl)
theorem dX10_go_25 : decode cX10_go 25 = .ok (.dup, 1) := dk_89 (dk_at dksX10_go_1 1 rfl rfl)
theorem dX10_go_26 : decode cX10_go 26 = .ok (.getfield 43, 3) := dk_180 0 43 (dk_at dksX10_go_1 2 rfl rfl)
theorem dX10_go_29 : decode cX10_go 29 = .ok (.iconst 1, 1) := dk_4 (dk_at dksX10_go_1 5 rfl rfl)
theorem dX10_go_30 : decode cX10_go 30 = .ok (.iadd, 1) := dk_96 (dk_at dksX10_go_1 6 rfl rfl)
theorem dX10_go_31 : decode cX10_go 31 = .ok (.putfield 43, 3) := dk_181 0 43 (dk_at dksX10_go_1 7 rfl rfl)
theorem dX10_go_34 : decode cX10_go 34 = .ok (.aload_n 0, 1) := dk_42 (dk_at dksX10_go_1 10 rfl rfl)
theorem dX10_go_35 : decode cX10_go 35 = .ok (.dup, 1) := dk_89 (dk_at dksX10_go_1 11 rfl rfl)
theorem dX10_go_36 : decode cX10_go 36 = .ok (.getfield 46, 3) := dk_180 0 46 (dk_at dksX10_go_1 12 rfl rfl)
theorem dX10_go_39 : decode cX10_go 39 = .ok (.aload_n 0, 1) := dk_42 (dk_at dksX10_go_1 15 rfl rfl)
theorem dX10_go_40 : decode cX10_go 40 = .ok (.getfield 22, 3) := dk_180 0 22 (dk_at dksX10_go_1 16 rfl rfl)
theorem dX10_go_43 : decode cX10_go 43 = .ok (.ifnull 30, 3) := dk_198 0 30 (dk_at dksX10_go_1 19 rfl rfl)
theorem dX10_go_46 : decode cX10_go 46 = .ok (.aload_n 0, 1) := dk_42 (dk_at dksX10_go_1 22 rfl rfl)
theorem dX10_go_47 : decode cX10_go 47 = .ok (.getfield 22, 3) := dk_180 0 22 (dk_at dksX10_go_2 0 rfl rfl)
theorem dX10_go_50 : decode cX10_go 50 = .ok (.aload_n 0, 1) := dk_42 (dk_at dksX10_go_2 3 rfl rfl)
theorem dX10_go_51 : decode cX10_go 51 = .ok (.getfield 26, 3) := dk_180 0 26 (dk_at dksX10_go_2 4 rfl rfl)
theorem dX10_go_54 : decode cX10_go 54 = .ok (.aload_n 0, 1) := dk_42 (dk_at dksX10_go_2 7 rfl rfl)
theorem dX10_go_55 : decode cX10_go 55 = .ok (.getfield 18, 3) := dk_180 0 18 (dk_at dksX10_go_2 8 rfl rfl)
theorem dX10_go_58 : decode cX10_go 58 = .ok (.iconst 0, 1) := dk_3 (dk_at dksX10_go_2 11 rfl rfl)
theorem dX10_go_59 : decode cX10_go 59 = .ok (.invokevirtual 49, 3) := dk_182 0 49 (dk_at dksX10_go_2 12 rfl rfl)
theorem dX10_go_62 : decode cX10_go 62 = .ok (.aload_n 0, 1) := dk_42 (dk_at dksX10_go_2 15 rfl rfl)
theorem dX10_go_63 : decode cX10_go 63 = .ok (.getfield 30, 3) := dk_180 0 30 (dk_at dksX10_go_2 16 rfl rfl)
theorem dX10_go_66 : decode cX10_go 66 = .ok (.if_icmp .ne 7, 3) := dk_160 0 7 (dk_at dksX10_go_2 19 rfl rfl)
theorem dX10_go_69 : decode cX10_go 69 = .ok (.iconst 1, 1) := dk_4 (dk_at dksX10_go_2 22 rfl rfl)
theorem dX10_go_70 : decode cX10_go 70 = .ok (.goto 4, 3) := dk_167 0 4 (dk_at dksX10_go_3 0 rfl rfl)
theorem dX10_go_73 : decode cX10_go 73 = .ok (.iconst 0, 1) := dk_3 (dk_at dksX10_go_3 3 rfl rfl)
theorem dX10_go_74 : decode cX10_go 74 = .ok (.iadd, 1) := dk_96 (dk_at dksX10_go_3 4 rfl rfl)
theorem dX10_go_75 : decode cX10_go 75 = .ok (.putfield 46, 3) := dk_181 0 46 (dk_at dksX10_go_3 5 rfl rfl)
theorem dX10_go_78 : decode cX10_go 78 = .ok (.return_, 1) := dk_177 (dk_at dksX10_go_3 8 rfl rfl)
theorem dX10_go_79 : decode cX10_go 79 = .ok (.aload_n 0, 1) := dk_42 (dk_at dksX10_go_3 9 rfl rfl)
theorem dX10_go_80 : decode cX10_go 80 = .ok (.getfield 3, 3) := dk_180 0 3 (dk_at dksX10_go_3 10 rfl rfl)
theorem dX10_go_83 : decode cX10_go 83 = .ok (.getfield 40, 3) := dk_180 0 40 (dk_at dksX10_go_3 13 rfl rfl)
theorem dX10_go_86 : decode cX10_go 86 = .ok (.aload_n 0, 1) := dk_42 (dk_at dksX10_go_3 16 rfl rfl)
theorem dX10_go_87 : decode cX10_go 87 = .ok (.getfield 18, 3) := dk_180 0 18 (dk_at dksX10_go_3 17 rfl rfl)
theorem dX10_go_90 : decode cX10_go 90 = .ok (.invokeinterface 34 1, 5) := by decide +kernel
theorem dX10_go_95 : decode cX10_go 95 = .ok (.invokeinterface 55 2, 5) := by decide +kernel
theorem dX10_go_100 : decode cX10_go 100 = .ok (.checkcast 59, 3) := dk_192 0 59 (dk_at dksX10_go_4 10 rfl rfl)
theorem dX10_go_103 : decode cX10_go 103 = .ok (.getfield 61, 3) := dk_180 0 61 (dk_at dksX10_go_4 13 rfl rfl)
theorem dX10_go_106 : decode cX10_go 106 = .ok (.istore_n 1, 1) := dk_60 (dk_at dksX10_go_4 16 rfl rfl)
theorem dX10_go_107 : decode cX10_go 107 = .ok (.iconst 0, 1) := dk_3 (dk_at dksX10_go_4 17 rfl rfl)
theorem dX10_go_108 : decode cX10_go 108 = .ok (.istore_n 2, 1) := dk_61 (dk_at dksX10_go_4 18 rfl rfl)
theorem dX10_go_109 : decode cX10_go 109 = .ok (.iload_n 2, 1) := dk_28 (dk_at dksX10_go_4 19 rfl rfl)
theorem dX10_go_110 : decode cX10_go 110 = .ok (.iconst 4, 1) := dk_7 (dk_at dksX10_go_4 20 rfl rfl)
theorem dX10_go_111 : decode cX10_go 111 = .ok (.if_icmp .ge 145, 3) := dk_162 0 145 (dk_at dksX10_go_4 21 rfl rfl)
theorem dX10_go_114 : decode cX10_go 114 = .ok (.aload_n 0, 1) := dk_42 (dk_at dksX10_go_5 0 rfl rfl)
theorem dX10_go_115 : decode cX10_go 115 = .ok (.getfield 43, 3) := dk_180 0 43 (dk_at dksX10_go_5 1 rfl rfl)
theorem dX10_go_118 : decode cX10_go 118 = .ok (.bipush 120, 2) := dk_16 120 (dk_at dksX10_go_5 4 rfl rfl)
theorem dX10_go_120 : decode cX10_go 120 = .ok (.if_icmp .gt 136, 3) := dk_163 0 136 (dk_at dksX10_go_5 6 rfl rfl)
theorem dX10_go_123 : decode cX10_go 123 = .ok (.aconst_null, 1) := dk_1 (dk_at dksX10_go_5 9 rfl rfl)
theorem dX10_go_124 : decode cX10_go 124 = .ok (.astore_n 3, 1) := dk_78 (dk_at dksX10_go_5 10 rfl rfl)
theorem dX10_go_125 : decode cX10_go 125 = .ok (.aload_n 0, 1) := dk_42 (dk_at dksX10_go_5 11 rfl rfl)
theorem dX10_go_126 : decode cX10_go 126 = .ok (.getfield 3, 3) := dk_180 0 3 (dk_at dksX10_go_5 12 rfl rfl)
theorem dX10_go_129 : decode cX10_go 129 = .ok (.getfield 40, 3) := dk_180 0 40 (dk_at dksX10_go_5 15 rfl rfl)
theorem dX10_go_132 : decode cX10_go 132 = .ok (.invokeinterface 34 1, 5) := by decide +kernel
theorem dX10_go_137 : decode cX10_go 137 = .ok (.iconst 1, 1) := dk_4 (dk_at dksX10_go_5 23 rfl rfl)
theorem dX10_go_138 : decode cX10_go 138 = .ok (.isub, 1) := dk_100 (dk_at dksX10_go_6 0 rfl rfl)
theorem dX10_go_139 : decode cX10_go 139 = .ok (.istore 4, 2) := dk_54 4 (dk_at dksX10_go_6 1 rfl rfl)
theorem dX10_go_141 : decode cX10_go 141 = .ok (.iload 4, 2) := dk_21 4 (dk_at dksX10_go_6 3 rfl rfl)
theorem dX10_go_143 : decode cX10_go 143 = .ok (.ifCond .lt 67, 3) := dk_155 0 67 (dk_at dksX10_go_6 5 rfl rfl)
theorem dX10_go_146 : decode cX10_go 146 = .ok (.aload_n 0, 1) := dk_42 (dk_at dksX10_go_6 8 rfl rfl)
theorem dX10_go_147 : decode cX10_go 147 = .ok (.getfield 3, 3) := dk_180 0 3 (dk_at dksX10_go_6 9 rfl rfl)
theorem dX10_go_150 : decode cX10_go 150 = .ok (.getfield 40, 3) := dk_180 0 40 (dk_at dksX10_go_6 12 rfl rfl)
theorem dX10_go_153 : decode cX10_go 153 = .ok (.iload 4, 2) := dk_21 4 (dk_at dksX10_go_6 15 rfl rfl)
theorem dX10_go_155 : decode cX10_go 155 = .ok (.invokeinterface 55 2, 5) := by decide +kernel
theorem dX10_go_160 : decode cX10_go 160 = .ok (.checkcast 59, 3) := dk_192 0 59 (dk_at dksX10_go_7 0 rfl rfl)
theorem dX10_go_163 : decode cX10_go 163 = .ok (.astore 5, 2) := dk_58 5 (dk_at dksX10_go_7 3 rfl rfl)
theorem dX10_go_165 : decode cX10_go 165 = .ok (.aload 5, 2) := dk_25 5 (dk_at dksX10_go_7 5 rfl rfl)
theorem dX10_go_167 : decode cX10_go 167 = .ok (.getfield 61, 3) := dk_180 0 61 (dk_at dksX10_go_7 7 rfl rfl)
theorem dX10_go_170 : decode cX10_go 170 = .ok (.iload_n 1, 1) := dk_27 (dk_at dksX10_go_7 10 rfl rfl)
theorem dX10_go_171 : decode cX10_go 171 = .ok (.if_icmp .ne 31, 3) := dk_160 0 31 (dk_at dksX10_go_7 11 rfl rfl)
theorem dX10_go_174 : decode cX10_go 174 = .ok (.aload 5, 2) := dk_25 5 (dk_at dksX10_go_7 14 rfl rfl)
theorem dX10_go_176 : decode cX10_go 176 = .ok (.getfield 64, 3) := dk_180 0 64 (dk_at dksX10_go_7 16 rfl rfl)
theorem dX10_go_179 : decode cX10_go 179 = .ok (.iload_n 2, 1) := dk_28 (dk_at dksX10_go_7 19 rfl rfl)
theorem dX10_go_180 : decode cX10_go 180 = .ok (.if_icmp .ne 22, 3) := dk_160 0 22 (dk_at dksX10_go_7 20 rfl rfl)
theorem dX10_go_183 : decode cX10_go 183 = .ok (.aload_n 0, 1) := dk_42 (dk_at dksX10_go_7 23 rfl rfl)
theorem dX10_go_184 : decode cX10_go 184 = .ok (.getfield 18, 3) := dk_180 0 18 (dk_at dksX10_go_8 0 rfl rfl)
theorem dX10_go_187 : decode cX10_go 187 = .ok (.aload 5, 2) := dk_25 5 (dk_at dksX10_go_8 3 rfl rfl)
theorem dX10_go_189 : decode cX10_go 189 = .ok (.invokeinterface 67 2, 5) := by decide +kernel
theorem dX10_go_194 : decode cX10_go 194 = .ok (.ifCond .ne 8, 3) := dk_154 0 8 (dk_at dksX10_go_8 10 rfl rfl)
theorem dX10_go_197 : decode cX10_go 197 = .ok (.aload 5, 2) := dk_25 5 (dk_at dksX10_go_8 13 rfl rfl)
theorem dX10_go_199 : decode cX10_go 199 = .ok (.goto 4, 3) := dk_167 0 4 (dk_at dksX10_go_8 15 rfl rfl)
theorem dX10_go_202 : decode cX10_go 202 = .ok (.aload_n 3, 1) := dk_45 (dk_at dksX10_go_8 18 rfl rfl)
theorem dX10_go_203 : decode cX10_go 203 = .ok (.astore_n 3, 1) := dk_78 (dk_at dksX10_go_8 19 rfl rfl)
theorem dX10_go_204 : decode cX10_go 204 = .ok (.iinc 4 (-1), 3) := dk_132 4 255 (dk_at dksX10_go_8 20 rfl rfl)
theorem dX10_go_207 : decode cX10_go 207 = .ok (.goto (-66), 3) := dk_167 255 190 (dk_at dksX10_go_9 0 rfl rfl)
theorem dX10_go_210 : decode cX10_go 210 = .ok (.aload_n 3, 1) := dk_45 (dk_at dksX10_go_9 3 rfl rfl)
theorem dX10_go_211 : decode cX10_go 211 = .ok (.ifnull 39, 3) := dk_198 0 39 (dk_at dksX10_go_9 4 rfl rfl)
theorem dX10_go_214 : decode cX10_go 214 = .ok (.aload_n 0, 1) := dk_42 (dk_at dksX10_go_9 7 rfl rfl)
theorem dX10_go_215 : decode cX10_go 215 = .ok (.getfield 18, 3) := dk_180 0 18 (dk_at dksX10_go_9 8 rfl rfl)
theorem dX10_go_218 : decode cX10_go 218 = .ok (.aload_n 3, 1) := dk_45 (dk_at dksX10_go_9 11 rfl rfl)
theorem dX10_go_219 : decode cX10_go 219 = .ok (.invokeinterface 71 2, 5) := by decide +kernel
theorem dX10_go_224 : decode cX10_go 224 = .ok (.pop, 1) := dk_87 (dk_at dksX10_go_9 17 rfl rfl)
theorem dX10_go_225 : decode cX10_go 225 = .ok (.aload_n 0, 1) := dk_42 (dk_at dksX10_go_9 18 rfl rfl)
theorem dX10_go_226 : decode cX10_go 226 = .ok (.invokevirtual 74, 3) := dk_182 0 74 (dk_at dksX10_go_9 19 rfl rfl)
theorem dX10_go_229 : decode cX10_go 229 = .ok (.aload_n 0, 1) := dk_42 (dk_at dksX10_go_9 22 rfl rfl)
theorem dX10_go_230 : decode cX10_go 230 = .ok (.getfield 18, 3) := dk_180 0 18 (dk_at dksX10_go_10 0 rfl rfl)
theorem dX10_go_233 : decode cX10_go 233 = .ok (.aload_n 0, 1) := dk_42 (dk_at dksX10_go_10 3 rfl rfl)
theorem dX10_go_234 : decode cX10_go 234 = .ok (.getfield 18, 3) := dk_180 0 18 (dk_at dksX10_go_10 4 rfl rfl)
theorem dX10_go_237 : decode cX10_go 237 = .ok (.invokeinterface 34 1, 5) := by decide +kernel
theorem dX10_go_242 : decode cX10_go 242 = .ok (.iconst 1, 1) := dk_4 (dk_at dksX10_go_10 12 rfl rfl)
theorem dX10_go_243 : decode cX10_go 243 = .ok (.isub, 1) := dk_100 (dk_at dksX10_go_10 13 rfl rfl)
theorem dX10_go_244 : decode cX10_go 244 = .ok (.invokeinterface 77 2, 5) := by decide +kernel
theorem dX10_go_249 : decode cX10_go 249 = .ok (.pop, 1) := dk_87 (dk_at dksX10_go_10 19 rfl rfl)
theorem dX10_go_250 : decode cX10_go 250 = .ok (.iinc 2 1, 3) := dk_132 2 1 (dk_at dksX10_go_10 20 rfl rfl)
theorem dX10_go_253 : decode cX10_go 253 = .ok (.goto (-144), 3) := dk_167 255 112 (dk_at dksX10_go_11 0 rfl rfl)
theorem dX10_go_256 : decode cX10_go 256 = .ok (.return_, 1) := dk_177 (dk_at dksX10_go_11 3 rfl rfl)
theorem q109 : (Jvm.Cond.initialized "LogGrammar$Orders") ∈ lw_all := lw_g (lw_at lw_m1 37 rfl) rfl
theorem q212 : (Jvm.Cond.selects "LogGrammar$Orders" ({ cls := "java/lang/Object", name := "getClass", desc := "()Ljava/lang/Class;" } : Jvm.MethodName) ({ cls := "java/lang/Object", name := "getClass", desc := "()Ljava/lang/Class;" } : Jvm.MethodName)) ∈ lw_all := lw_g (lw_at lw_m1 140 rfl) rfl
theorem q247 : (Jvm.Cond.fieldLinkNest "LogGrammar$Orders" (40 : Nat) "LogGrammar" "log" "Ljava/util/List;" "LogGrammar") ∈ lw_tbl := lw_at lw_m1 175 rfl
theorem q410 : (Jvm.Cond.instantiable "LogGrammar$Orders" (7 : Nat)) ∈ lw_all := lw_g (lw_at lw_m2 98 rfl) rfl
theorem q412 : (Jvm.Cond.instanceMethod ({ cls := "LogGrammar$Orders", name := "<init>", desc := "(LLogGrammar;LLogGrammar$Monitor;LLogGrammar$Event;I)V" } : Jvm.MethodName)) ∈ lw_all := lw_g (lw_at lw_m2 100 rfl) rfl
theorem q413 : (Jvm.Cond.code ({ cls := "LogGrammar$Orders", name := "<init>", desc := "(LLogGrammar;LLogGrammar$Monitor;LLogGrammar$Event;I)V" } : Jvm.MethodName) prog_5_method_1_code (5 : Nat) (Option.none : Option Jvm.ClassFile.FieldType)) ∈ lw_all := lw_g (lw_at lw_m2 101 rfl) rfl
theorem q414 : (Jvm.Cond.methodLink "LogGrammar$Orders" (9 : Nat) ({ cls := "java/lang/Object", name := "<init>", desc := "()V" } : Jvm.MethodName)) ∈ lw_all := lw_g (lw_at lw_m2 102 rfl) rfl
theorem q415 : (Jvm.Cond.classLink "LogGrammar$Orders" (15 : Nat) "java/util/ArrayList") ∈ lw_all := lw_g (lw_at lw_m2 103 rfl) rfl
theorem q416 : (Jvm.Cond.methodLink "LogGrammar$Orders" (17 : Nat) ({ cls := "java/util/ArrayList", name := "<init>", desc := "()V" } : Jvm.MethodName)) ∈ lw_all := lw_g (lw_at lw_m2 104 rfl) rfl
theorem q417 : (Jvm.Cond.fieldLink "LogGrammar$Orders" (18 : Nat) "LogGrammar$Orders" "begun" "Ljava/util/List;") ∈ lw_all := lw_g (lw_at lw_m2 105 rfl) rfl
theorem q418 : (Jvm.Cond.fieldLink "LogGrammar$Orders" (22 : Nat) "LogGrammar$Orders" "monitor" "LLogGrammar$Monitor;") ∈ lw_all := lw_g (lw_at lw_m2 106 rfl) rfl
theorem q419 : (Jvm.Cond.fieldLink "LogGrammar$Orders" (26 : Nat) "LogGrammar$Orders" "event" "LLogGrammar$Event;") ∈ lw_all := lw_g (lw_at lw_m2 107 rfl) rfl
theorem q420 : (Jvm.Cond.fieldLink "LogGrammar$Orders" (30 : Nat) "LogGrammar$Orders" "answer" "I") ∈ lw_all := lw_g (lw_at lw_m2 108 rfl) rfl
theorem q421 : (Jvm.Cond.fieldLink "LogGrammar$Orders" (43 : Nat) "LogGrammar$Orders" "many" "I") ∈ lw_all := lw_g (lw_at lw_m2 109 rfl) rfl
theorem q423 : (Jvm.Cond.fieldLink "LogGrammar$Orders" (46 : Nat) "LogGrammar$Orders" "having" "I") ∈ lw_all := lw_g (lw_at lw_m2 111 rfl) rfl
theorem q425 : (Jvm.Cond.fieldLink "LogGrammar$Orders" (3 : Nat) "LogGrammar$Orders" "this$0" "LLogGrammar;") ∈ lw_all := lw_g (lw_at lw_m2 113 rfl) rfl
theorem q426 : (Jvm.Cond.laysFinal "LogGrammar$Orders" "LogGrammar$Orders" "begun" "Ljava/util/List;") ∈ lw_all := lw_g (lw_at lw_m2 114 rfl) rfl
theorem q427 : (Jvm.Cond.soleField "LogGrammar$Orders" "begun") ∈ lw_all := lw_g (lw_at lw_m2 115 rfl) rfl
theorem q428 : (Jvm.Cond.laysFinal "LogGrammar$Orders" "LogGrammar$Orders" "monitor" "LLogGrammar$Monitor;") ∈ lw_all := lw_g (lw_at lw_m2 116 rfl) rfl
theorem q429 : (Jvm.Cond.soleField "LogGrammar$Orders" "monitor") ∈ lw_all := lw_g (lw_at lw_m2 117 rfl) rfl
theorem q430 : (Jvm.Cond.laysFinal "LogGrammar$Orders" "LogGrammar$Orders" "event" "LLogGrammar$Event;") ∈ lw_all := lw_g (lw_at lw_m2 118 rfl) rfl
theorem q431 : (Jvm.Cond.soleField "LogGrammar$Orders" "event") ∈ lw_all := lw_g (lw_at lw_m2 119 rfl) rfl
theorem q432 : (Jvm.Cond.laysFinal "LogGrammar$Orders" "LogGrammar$Orders" "answer" "I") ∈ lw_all := lw_g (lw_at lw_m2 120 rfl) rfl
theorem q433 : (Jvm.Cond.soleField "LogGrammar$Orders" "answer") ∈ lw_all := lw_g (lw_at lw_m2 121 rfl) rfl
theorem q434 : (Jvm.Cond.lays "LogGrammar$Orders" "LogGrammar$Orders" "many" "I") ∈ lw_all := lw_g (lw_at lw_m2 122 rfl) rfl
theorem q435 : (Jvm.Cond.soleField "LogGrammar$Orders" "many") ∈ lw_all := lw_g (lw_at lw_m2 123 rfl) rfl
theorem q436 : (Jvm.Cond.lays "LogGrammar$Orders" "LogGrammar$Orders" "having" "I") ∈ lw_all := lw_g (lw_at lw_m2 124 rfl) rfl
theorem q437 : (Jvm.Cond.soleField "LogGrammar$Orders" "having") ∈ lw_all := lw_g (lw_at lw_m2 125 rfl) rfl
theorem q438 : (Jvm.Cond.laysFinal "LogGrammar$Orders" "LogGrammar$Orders" "this$0" "LLogGrammar;") ∈ lw_all := lw_g (lw_at lw_m2 126 rfl) rfl
theorem q439 : (Jvm.Cond.soleField "LogGrammar$Orders" "this$0") ∈ lw_all := lw_g (lw_at lw_m2 127 rfl) rfl
theorem q440 : (Jvm.Cond.superclass "LogGrammar$Orders" "java/lang/Object") ∈ lw_all := lw_g (lw_at lw_m2 128 rfl) rfl
theorem q442 : (Jvm.Cond.instanceMethod ({ cls := "LogGrammar$Orders", name := "go", desc := "()V" } : Jvm.MethodName)) ∈ lw_all := lw_g (lw_at lw_m2 130 rfl) rfl
theorem q443 : (Jvm.Cond.selects "LogGrammar$Orders" ({ cls := "LogGrammar$Orders", name := "go", desc := "()V" } : Jvm.MethodName) ({ cls := "LogGrammar$Orders", name := "go", desc := "()V" } : Jvm.MethodName)) ∈ lw_all := lw_g (lw_at lw_m2 131 rfl) rfl
theorem q444 : (Jvm.Cond.code ({ cls := "LogGrammar$Orders", name := "go", desc := "()V" } : Jvm.MethodName) prog_5_method_2_code (6 : Nat) (Option.none : Option Jvm.ClassFile.FieldType)) ∈ lw_all := lw_g (lw_at lw_m2 132 rfl) rfl
theorem q445 : (Jvm.Cond.interfaceEntry "LogGrammar$Orders" (34 : Nat)) ∈ lw_tbl := lw_at lw_m2 133 rfl
theorem q446 : (Jvm.Cond.methodLink "LogGrammar$Orders" (34 : Nat) ({ cls := "java/util/List", name := "size", desc := "()I" } : Jvm.MethodName)) ∈ lw_all := lw_g (lw_at lw_m2 134 rfl) rfl
theorem q447 : (Jvm.Cond.methodLink "LogGrammar$Orders" (49 : Nat) ({ cls := "LogGrammar$Monitor", name := "answerFor", desc := "(LLogGrammar$Event;Ljava/util/List;Z)I" } : Jvm.MethodName)) ∈ lw_all := lw_g (lw_at lw_m2 135 rfl) rfl
theorem q549 : (Jvm.Cond.selects "LogGrammar$Orders" ({ cls := "java/lang/Object", name := "equals", desc := "(Ljava/lang/Object;)Z" } : Jvm.MethodName) ({ cls := "java/lang/Object", name := "equals", desc := "(Ljava/lang/Object;)Z" } : Jvm.MethodName)) ∈ lw_all := lw_g (lw_at lw_m2 237 rfl) rfl
theorem q583 : (Jvm.Cond.interfaceEntry "LogGrammar$Orders" (55 : Nat)) ∈ lw_tbl := lw_at lw_m3 31 rfl
theorem q584 : (Jvm.Cond.methodLink "LogGrammar$Orders" (55 : Nat) ({ cls := "java/util/List", name := "get", desc := "(I)Ljava/lang/Object;" } : Jvm.MethodName)) ∈ lw_all := lw_g (lw_at lw_m3 32 rfl) rfl
theorem q585 : (Jvm.Cond.classLink "LogGrammar$Orders" (59 : Nat) "LogGrammar$Event") ∈ lw_all := lw_g (lw_at lw_m3 33 rfl) rfl
theorem q586 : (Jvm.Cond.interfaceEntry "LogGrammar$Orders" (67 : Nat)) ∈ lw_tbl := lw_at lw_m3 34 rfl
theorem q587 : (Jvm.Cond.methodLink "LogGrammar$Orders" (67 : Nat) ({ cls := "java/util/List", name := "contains", desc := "(Ljava/lang/Object;)Z" } : Jvm.MethodName)) ∈ lw_all := lw_g (lw_at lw_m3 35 rfl) rfl
theorem q596 : (Jvm.Cond.interfaceEntry "LogGrammar$Orders" (71 : Nat)) ∈ lw_tbl := lw_at lw_m3 44 rfl
theorem q597 : (Jvm.Cond.methodLink "LogGrammar$Orders" (71 : Nat) ({ cls := "java/util/List", name := "add", desc := "(Ljava/lang/Object;)Z" } : Jvm.MethodName)) ∈ lw_all := lw_g (lw_at lw_m3 45 rfl) rfl
theorem q598 : (Jvm.Cond.methodLink "LogGrammar$Orders" (74 : Nat) ({ cls := "LogGrammar$Orders", name := "go", desc := "()V" } : Jvm.MethodName)) ∈ lw_all := lw_g (lw_at lw_m3 46 rfl) rfl
theorem q599 : (Jvm.Cond.interfaceEntry "LogGrammar$Orders" (77 : Nat)) ∈ lw_tbl := lw_at lw_m3 47 rfl
theorem q600 : (Jvm.Cond.methodLink "LogGrammar$Orders" (77 : Nat) ({ cls := "java/util/List", name := "remove", desc := "(I)Ljava/lang/Object;" } : Jvm.MethodName)) ∈ lw_all := lw_g (lw_at lw_m3 48 rfl) rfl
theorem q786 : (Jvm.Cond.fieldLinkNest "LogGrammar$Orders" (61 : Nat) "LogGrammar$Event" "time" "I" "LogGrammar") ∈ lw_tbl := lw_at lw_m3 234 rfl
theorem q790 : (Jvm.Cond.fieldLinkNest "LogGrammar$Orders" (64 : Nat) "LogGrammar$Event" "node" "I" "LogGrammar") ∈ lw_tbl := lw_at lw_m3 238 rfl
theorem q2174 : (Jvm.Cond.castable "LogGrammar$Orders" "java/lang/Object") ∈ lw_tbl := lw_at lw_m9 182 rfl
theorem in_X10 : ∀ w ∈ wsX100, w ∈ lw_all := lw_in wsX100 [426, 428, 430, 432, 434, 436, 438] (by decide +kernel) (by decide +kernel)
/-! LogGrammar$Tree -/
set_option maxRecDepth 100000
def RX2 : String := "LogGrammar$Tree"
def TX2 : u_T := fun k => match k with
  | 0 => ("LogGrammar$Tree", "from", "I", true)
  | 1 => ("LogGrammar$Tree", "to", "I", true)
  | 2 => ("LogGrammar$Tree", "all", "LLogGrammar$Summary;", false)
  | 3 => ("LogGrammar$Tree", "lower", "LLogGrammar$Tree;", false)
  | _ => ("LogGrammar$Tree", "upper", "LLogGrammar$Tree;", false)
def tyX2 : Nat → FieldType := fun k => match k with
  | 0 => .int
  | 1 => .int
  | 2 => .object "LogGrammar$Summary"
  | 3 => .object "LogGrammar$Tree"
  | _ => .object "LogGrammar$Tree"
abbrev wsX20 : List Cond := u_ws RX2 TX2 5
theorem nmX2 : ∀ a, a < 5 → ∀ b, b < 5 → a ≠ b → (TX2 a).2.1 ≠ (TX2 b).2.1 := by decide +kernel
theorem tyX2_ok : ∀ k, k < 5 → parseFieldDescriptor (TX2 k).2.2.1 = some (tyX2 k) := by decide +kernel
abbrev cX2_init : ByteArray := prog_11_method_1_code
def yX2_init : MethodName := ⟨RX2, "<init>", "(II)V"⟩
def dkwX2_init_0 : List UInt8 := [42, 183, 0, 1, 42, 27, 181, 0, 7, 42, 28, 181, 0, 13, 177]
abbrev dktX2_init_0 : List UInt8 := dkwX2_init_0 ++ []
theorem dksX2_init_0 : cX2_init.data.toList.drop 0 = dktX2_init_0 := by decide +kernel
theorem dX2_init_0 : decode cX2_init 0 = .ok (.aload_n 0, 1) := dk_42 (dk_at dksX2_init_0 0 rfl rfl)
theorem dX2_init_1 : decode cX2_init 1 = .ok (.invokespecial 1, 3) := dk_183 0 1 (dk_at dksX2_init_0 1 rfl rfl)
theorem dX2_init_4 : decode cX2_init 4 = .ok (.aload_n 0, 1) := dk_42 (dk_at dksX2_init_0 4 rfl rfl)
theorem dX2_init_5 : decode cX2_init 5 = .ok (.iload_n 1, 1) := dk_27 (dk_at dksX2_init_0 5 rfl rfl)
theorem dX2_init_6 : decode cX2_init 6 = .ok (.putfield 7, 3) := dk_181 0 7 (dk_at dksX2_init_0 6 rfl rfl)
theorem dX2_init_9 : decode cX2_init 9 = .ok (.aload_n 0, 1) := dk_42 (dk_at dksX2_init_0 9 rfl rfl)
theorem dX2_init_10 : decode cX2_init 10 = .ok (.iload_n 2, 1) := dk_28 (dk_at dksX2_init_0 10 rfl rfl)
theorem dX2_init_11 : decode cX2_init 11 = .ok (.putfield 13, 3) := dk_181 0 13 (dk_at dksX2_init_0 11 rfl rfl)
theorem dX2_init_14 : decode cX2_init 14 = .ok (.return_, 1) := dk_177 (dk_at dksX2_init_0 14 rfl rfl)
abbrev cX2_add : ByteArray := prog_11_method_2_code
def yX2_add : MethodName := ⟨RX2, "add", "(ILLogGrammar$Summary;)V"⟩
def dkwX2_add_6 : List UInt8 := [181, 0, 37, 42, 180, 0, 37, 27, 44, 182, 0, 33, 177]
abbrev dktX2_add_6 : List UInt8 := dkwX2_add_6 ++ []
def dkwX2_add_5 : List UInt8 := [199, 0, 20, 187, 0, 8, 89, 29, 4, 96, 42, 180, 0, 13, 183, 0, 30, 167, 0, 7, 42, 180, 0, 37]
abbrev dktX2_add_5 : List UInt8 := dkwX2_add_5 ++ dktX2_add_6
def dkwX2_add_4 : List UInt8 := [182, 0, 33, 167, 0, 55, 42, 180, 0, 7, 42, 180, 0, 13, 162, 0, 44, 42, 42, 180, 0, 37]
abbrev dktX2_add_4 : List UInt8 := dkwX2_add_4 ++ dktX2_add_5
def dkwX2_add_3 : List UInt8 := [180, 0, 7, 29, 183, 0, 30, 167, 0, 7, 42, 180, 0, 26, 181, 0, 26, 42, 180, 0, 26, 27, 44]
abbrev dktX2_add_3 : List UInt8 := dkwX2_add_3 ++ dktX2_add_4
def dkwX2_add_2 : List UInt8 := [180, 0, 13, 162, 0, 50, 27, 29, 163, 0, 45, 42, 42, 180, 0, 26, 199, 0, 18, 187, 0, 8, 89, 42]
abbrev dktX2_add_2 : List UInt8 := dkwX2_add_2 ++ dktX2_add_3
def dkwX2_add_1 : List UInt8 := [192, 0, 21, 181, 0, 16, 42, 180, 0, 7, 42, 180, 0, 13, 96, 5, 108, 62, 42, 180, 0, 7, 42]
abbrev dktX2_add_1 : List UInt8 := dkwX2_add_1 ++ dktX2_add_2
def dkwX2_add_0 : List UInt8 := [42, 42, 180, 0, 16, 199, 0, 7, 44, 167, 0, 16, 42, 180, 0, 16, 44, 185, 0, 20, 2, 0]
abbrev dktX2_add_0 : List UInt8 := dkwX2_add_0 ++ dktX2_add_1
theorem dksX2_add_0 : cX2_add.data.toList.drop 0 = dktX2_add_0 := by decide +kernel
theorem dksX2_add_1 : cX2_add.data.toList.drop 22 = dktX2_add_1 := dk_seg dksX2_add_0 22 rfl rfl
theorem dksX2_add_2 : cX2_add.data.toList.drop 45 = dktX2_add_2 := dk_seg dksX2_add_1 23 rfl rfl
theorem dksX2_add_3 : cX2_add.data.toList.drop 69 = dktX2_add_3 := dk_seg dksX2_add_2 24 rfl rfl
theorem dksX2_add_4 : cX2_add.data.toList.drop 92 = dktX2_add_4 := dk_seg dksX2_add_3 23 rfl rfl
theorem dksX2_add_5 : cX2_add.data.toList.drop 114 = dktX2_add_5 := dk_seg dksX2_add_4 22 rfl rfl
theorem dksX2_add_6 : cX2_add.data.toList.drop 138 = dktX2_add_6 := dk_seg dksX2_add_5 24 rfl rfl
theorem dX2_add_0 : decode cX2_add 0 = .ok (.aload_n 0, 1) := dk_42 (dk_at dksX2_add_0 0 rfl rfl)
theorem dX2_add_1 : decode cX2_add 1 = .ok (.aload_n 0, 1) := dk_42 (dk_at dksX2_add_0 1 rfl rfl)
theorem dX2_add_2 : decode cX2_add 2 = .ok (.getfield 16, 3) := dk_180 0 16 (dk_at dksX2_add_0 2 rfl rfl)
theorem dX2_add_5 : decode cX2_add 5 = .ok (.ifnonnull 7, 3) := dk_199 0 7 (dk_at dksX2_add_0 5 rfl rfl)
theorem dX2_add_8 : decode cX2_add 8 = .ok (.aload_n 2, 1) := dk_44 (dk_at dksX2_add_0 8 rfl rfl)
theorem dX2_add_9 : decode cX2_add 9 = .ok (.goto 16, 3) := dk_167 0 16 (dk_at dksX2_add_0 9 rfl rfl)
theorem dX2_add_12 : decode cX2_add 12 = .ok (.aload_n 0, 1) := dk_42 (dk_at dksX2_add_0 12 rfl rfl)
theorem dX2_add_13 : decode cX2_add 13 = .ok (.getfield 16, 3) := dk_180 0 16 (dk_at dksX2_add_0 13 rfl rfl)
theorem dX2_add_16 : decode cX2_add 16 = .ok (.aload_n 2, 1) := dk_44 (dk_at dksX2_add_0 16 rfl rfl)
theorem dX2_add_17 : decode cX2_add 17 = .ok (.invokeinterface 20 2, 5) := by decide +kernel
theorem dX2_add_22 : decode cX2_add 22 = .ok (.checkcast 21, 3) := dk_192 0 21 (dk_at dksX2_add_1 0 rfl rfl)
theorem dX2_add_25 : decode cX2_add 25 = .ok (.putfield 16, 3) := dk_181 0 16 (dk_at dksX2_add_1 3 rfl rfl)
theorem dX2_add_28 : decode cX2_add 28 = .ok (.aload_n 0, 1) := dk_42 (dk_at dksX2_add_1 6 rfl rfl)
theorem dX2_add_29 : decode cX2_add 29 = .ok (.getfield 7, 3) := dk_180 0 7 (dk_at dksX2_add_1 7 rfl rfl)
theorem dX2_add_32 : decode cX2_add 32 = .ok (.aload_n 0, 1) := dk_42 (dk_at dksX2_add_1 10 rfl rfl)
theorem dX2_add_33 : decode cX2_add 33 = .ok (.getfield 13, 3) := dk_180 0 13 (dk_at dksX2_add_1 11 rfl rfl)
theorem dX2_add_36 : decode cX2_add 36 = .ok (.iadd, 1) := dk_96 (dk_at dksX2_add_1 14 rfl rfl)
theorem dX2_add_37 : decode cX2_add 37 = .ok (.iconst 2, 1) := dk_5 (dk_at dksX2_add_1 15 rfl rfl)
theorem dX2_add_38 : decode cX2_add 38 = .ok (.idiv, 1) := dk_108 (dk_at dksX2_add_1 16 rfl rfl)
theorem dX2_add_39 : decode cX2_add 39 = .ok (.istore_n 3, 1) := dk_62 (dk_at dksX2_add_1 17 rfl rfl)
theorem dX2_add_40 : decode cX2_add 40 = .ok (.aload_n 0, 1) := dk_42 (dk_at dksX2_add_1 18 rfl rfl)
theorem dX2_add_41 : decode cX2_add 41 = .ok (.getfield 7, 3) := dk_180 0 7 (dk_at dksX2_add_1 19 rfl rfl)
theorem dX2_add_44 : decode cX2_add 44 = .ok (.aload_n 0, 1) := dk_42 (dk_at dksX2_add_1 22 rfl rfl)
theorem dX2_add_45 : decode cX2_add 45 = .ok (.getfield 13, 3) := dk_180 0 13 (dk_at dksX2_add_2 0 rfl rfl)
theorem dX2_add_48 : decode cX2_add 48 = .ok (.if_icmp .ge 50, 3) := dk_162 0 50 (dk_at dksX2_add_2 3 rfl rfl)
theorem dX2_add_51 : decode cX2_add 51 = .ok (.iload_n 1, 1) := dk_27 (dk_at dksX2_add_2 6 rfl rfl)
theorem dX2_add_52 : decode cX2_add 52 = .ok (.iload_n 3, 1) := dk_29 (dk_at dksX2_add_2 7 rfl rfl)
theorem dX2_add_53 : decode cX2_add 53 = .ok (.if_icmp .gt 45, 3) := dk_163 0 45 (dk_at dksX2_add_2 8 rfl rfl)
theorem dX2_add_56 : decode cX2_add 56 = .ok (.aload_n 0, 1) := dk_42 (dk_at dksX2_add_2 11 rfl rfl)
theorem dX2_add_57 : decode cX2_add 57 = .ok (.aload_n 0, 1) := dk_42 (dk_at dksX2_add_2 12 rfl rfl)
theorem dX2_add_58 : decode cX2_add 58 = .ok (.getfield 26, 3) := dk_180 0 26 (dk_at dksX2_add_2 13 rfl rfl)
theorem dX2_add_61 : decode cX2_add 61 = .ok (.ifnonnull 18, 3) := dk_199 0 18 (dk_at dksX2_add_2 16 rfl rfl)
theorem dX2_add_64 : decode cX2_add 64 = .ok (.new 8, 3) := dk_187 0 8 (dk_at dksX2_add_2 19 rfl rfl)
theorem dX2_add_67 : decode cX2_add 67 = .ok (.dup, 1) := dk_89 (dk_at dksX2_add_2 22 rfl rfl)
theorem dX2_add_68 : decode cX2_add 68 = .ok (.aload_n 0, 1) := dk_42 (dk_at dksX2_add_2 23 rfl rfl)
theorem dX2_add_69 : decode cX2_add 69 = .ok (.getfield 7, 3) := dk_180 0 7 (dk_at dksX2_add_3 0 rfl rfl)
theorem dX2_add_72 : decode cX2_add 72 = .ok (.iload_n 3, 1) := dk_29 (dk_at dksX2_add_3 3 rfl rfl)
theorem dX2_add_73 : decode cX2_add 73 = .ok (.invokespecial 30, 3) := dk_183 0 30 (dk_at dksX2_add_3 4 rfl rfl)
theorem dX2_add_76 : decode cX2_add 76 = .ok (.goto 7, 3) := dk_167 0 7 (dk_at dksX2_add_3 7 rfl rfl)
theorem dX2_add_79 : decode cX2_add 79 = .ok (.aload_n 0, 1) := dk_42 (dk_at dksX2_add_3 10 rfl rfl)
theorem dX2_add_80 : decode cX2_add 80 = .ok (.getfield 26, 3) := dk_180 0 26 (dk_at dksX2_add_3 11 rfl rfl)
theorem dX2_add_83 : decode cX2_add 83 = .ok (.putfield 26, 3) := dk_181 0 26 (dk_at dksX2_add_3 14 rfl rfl)
theorem dX2_add_86 : decode cX2_add 86 = .ok (.aload_n 0, 1) := dk_42 (dk_at dksX2_add_3 17 rfl rfl)
theorem dX2_add_87 : decode cX2_add 87 = .ok (.getfield 26, 3) := dk_180 0 26 (dk_at dksX2_add_3 18 rfl rfl)
theorem dX2_add_90 : decode cX2_add 90 = .ok (.iload_n 1, 1) := dk_27 (dk_at dksX2_add_3 21 rfl rfl)
theorem dX2_add_91 : decode cX2_add 91 = .ok (.aload_n 2, 1) := dk_44 (dk_at dksX2_add_3 22 rfl rfl)
theorem dX2_add_92 : decode cX2_add 92 = .ok (.invokevirtual 33, 3) := dk_182 0 33 (dk_at dksX2_add_4 0 rfl rfl)
theorem dX2_add_95 : decode cX2_add 95 = .ok (.goto 55, 3) := dk_167 0 55 (dk_at dksX2_add_4 3 rfl rfl)
theorem dX2_add_98 : decode cX2_add 98 = .ok (.aload_n 0, 1) := dk_42 (dk_at dksX2_add_4 6 rfl rfl)
theorem dX2_add_99 : decode cX2_add 99 = .ok (.getfield 7, 3) := dk_180 0 7 (dk_at dksX2_add_4 7 rfl rfl)
theorem dX2_add_102 : decode cX2_add 102 = .ok (.aload_n 0, 1) := dk_42 (dk_at dksX2_add_4 10 rfl rfl)
theorem dX2_add_103 : decode cX2_add 103 = .ok (.getfield 13, 3) := dk_180 0 13 (dk_at dksX2_add_4 11 rfl rfl)
theorem dX2_add_106 : decode cX2_add 106 = .ok (.if_icmp .ge 44, 3) := dk_162 0 44 (dk_at dksX2_add_4 14 rfl rfl)
theorem dX2_add_109 : decode cX2_add 109 = .ok (.aload_n 0, 1) := dk_42 (dk_at dksX2_add_4 17 rfl rfl)
theorem dX2_add_110 : decode cX2_add 110 = .ok (.aload_n 0, 1) := dk_42 (dk_at dksX2_add_4 18 rfl rfl)
theorem dX2_add_111 : decode cX2_add 111 = .ok (.getfield 37, 3) := dk_180 0 37 (dk_at dksX2_add_4 19 rfl rfl)
theorem dX2_add_114 : decode cX2_add 114 = .ok (.ifnonnull 20, 3) := dk_199 0 20 (dk_at dksX2_add_5 0 rfl rfl)
theorem dX2_add_117 : decode cX2_add 117 = .ok (.new 8, 3) := dk_187 0 8 (dk_at dksX2_add_5 3 rfl rfl)
theorem dX2_add_120 : decode cX2_add 120 = .ok (.dup, 1) := dk_89 (dk_at dksX2_add_5 6 rfl rfl)
theorem dX2_add_121 : decode cX2_add 121 = .ok (.iload_n 3, 1) := dk_29 (dk_at dksX2_add_5 7 rfl rfl)
theorem dX2_add_122 : decode cX2_add 122 = .ok (.iconst 1, 1) := dk_4 (dk_at dksX2_add_5 8 rfl rfl)
theorem dX2_add_123 : decode cX2_add 123 = .ok (.iadd, 1) := dk_96 (dk_at dksX2_add_5 9 rfl rfl)
theorem dX2_add_124 : decode cX2_add 124 = .ok (.aload_n 0, 1) := dk_42 (dk_at dksX2_add_5 10 rfl rfl)
theorem dX2_add_125 : decode cX2_add 125 = .ok (.getfield 13, 3) := dk_180 0 13 (dk_at dksX2_add_5 11 rfl rfl)
theorem dX2_add_128 : decode cX2_add 128 = .ok (.invokespecial 30, 3) := dk_183 0 30 (dk_at dksX2_add_5 14 rfl rfl)
theorem dX2_add_131 : decode cX2_add 131 = .ok (.goto 7, 3) := dk_167 0 7 (dk_at dksX2_add_5 17 rfl rfl)
theorem dX2_add_134 : decode cX2_add 134 = .ok (.aload_n 0, 1) := dk_42 (dk_at dksX2_add_5 20 rfl rfl)
theorem dX2_add_135 : decode cX2_add 135 = .ok (.getfield 37, 3) := dk_180 0 37 (dk_at dksX2_add_5 21 rfl rfl)
theorem dX2_add_138 : decode cX2_add 138 = .ok (.putfield 37, 3) := dk_181 0 37 (dk_at dksX2_add_6 0 rfl rfl)
theorem dX2_add_141 : decode cX2_add 141 = .ok (.aload_n 0, 1) := dk_42 (dk_at dksX2_add_6 3 rfl rfl)
theorem dX2_add_142 : decode cX2_add 142 = .ok (.getfield 37, 3) := dk_180 0 37 (dk_at dksX2_add_6 4 rfl rfl)
theorem dX2_add_145 : decode cX2_add 145 = .ok (.iload_n 1, 1) := dk_27 (dk_at dksX2_add_6 7 rfl rfl)
theorem dX2_add_146 : decode cX2_add 146 = .ok (.aload_n 2, 1) := dk_44 (dk_at dksX2_add_6 8 rfl rfl)
theorem dX2_add_147 : decode cX2_add 147 = .ok (.invokevirtual 33, 3) := dk_182 0 33 (dk_at dksX2_add_6 9 rfl rfl)
theorem dX2_add_150 : decode cX2_add 150 = .ok (.return_, 1) := dk_177 (dk_at dksX2_add_6 12 rfl rfl)
abbrev cX2_over : ByteArray := prog_11_method_3_code
def yX2_over : MethodName := ⟨RX2, "over", "(II)LLogGrammar$Summary;"⟩
def dkwX2_over_4 : List UInt8 := [167, 0, 23, 25, 4, 199, 0, 7, 45, 167, 0, 14, 45, 25, 4, 185, 0, 20, 2, 0, 192, 0, 21, 176]
abbrev dktX2_over_4 : List UInt8 := dkwX2_over_4 ++ []
def dkwX2_over_3 : List UInt8 := [199, 0, 7, 1, 167, 0, 12, 42, 180, 0, 37, 27, 28, 182, 0, 40, 58, 4, 45, 199, 0, 8, 25, 4]
abbrev dktX2_over_3 : List UInt8 := dkwX2_over_3 ++ dktX2_over_4
def dkwX2_over_2 : List UInt8 := [180, 0, 26, 199, 0, 7, 1, 167, 0, 12, 42, 180, 0, 26, 27, 28, 182, 0, 40, 78, 42, 180, 0, 37]
abbrev dktX2_over_2 : List UInt8 := dkwX2_over_2 ++ dktX2_over_3
def dkwX2_over_1 : List UInt8 := [176, 27, 42, 180, 0, 7, 163, 0, 16, 28, 42, 180, 0, 13, 161, 0, 8, 42, 180, 0, 16, 176, 42]
abbrev dktX2_over_1 : List UInt8 := dkwX2_over_1 ++ dktX2_over_2
def dkwX2_over_0 : List UInt8 := [42, 180, 0, 16, 198, 0, 19, 28, 42, 180, 0, 7, 161, 0, 11, 27, 42, 180, 0, 13, 164, 0, 5, 1]
abbrev dktX2_over_0 : List UInt8 := dkwX2_over_0 ++ dktX2_over_1
theorem dksX2_over_0 : cX2_over.data.toList.drop 0 = dktX2_over_0 := by decide +kernel
theorem dksX2_over_1 : cX2_over.data.toList.drop 24 = dktX2_over_1 := dk_seg dksX2_over_0 24 rfl rfl
theorem dksX2_over_2 : cX2_over.data.toList.drop 47 = dktX2_over_2 := dk_seg dksX2_over_1 23 rfl rfl
theorem dksX2_over_3 : cX2_over.data.toList.drop 71 = dktX2_over_3 := dk_seg dksX2_over_2 24 rfl rfl
theorem dksX2_over_4 : cX2_over.data.toList.drop 95 = dktX2_over_4 := dk_seg dksX2_over_3 24 rfl rfl
theorem dX2_over_0 : decode cX2_over 0 = .ok (.aload_n 0, 1) := dk_42 (dk_at dksX2_over_0 0 rfl rfl)
theorem dX2_over_1 : decode cX2_over 1 = .ok (.getfield 16, 3) := dk_180 0 16 (dk_at dksX2_over_0 1 rfl rfl)
theorem dX2_over_4 : decode cX2_over 4 = .ok (.ifnull 19, 3) := dk_198 0 19 (dk_at dksX2_over_0 4 rfl rfl)
theorem dX2_over_7 : decode cX2_over 7 = .ok (.iload_n 2, 1) := dk_28 (dk_at dksX2_over_0 7 rfl rfl)
theorem dX2_over_8 : decode cX2_over 8 = .ok (.aload_n 0, 1) := dk_42 (dk_at dksX2_over_0 8 rfl rfl)
theorem dX2_over_9 : decode cX2_over 9 = .ok (.getfield 7, 3) := dk_180 0 7 (dk_at dksX2_over_0 9 rfl rfl)
theorem dX2_over_12 : decode cX2_over 12 = .ok (.if_icmp .lt 11, 3) := dk_161 0 11 (dk_at dksX2_over_0 12 rfl rfl)
theorem dX2_over_15 : decode cX2_over 15 = .ok (.iload_n 1, 1) := dk_27 (dk_at dksX2_over_0 15 rfl rfl)
theorem dX2_over_16 : decode cX2_over 16 = .ok (.aload_n 0, 1) := dk_42 (dk_at dksX2_over_0 16 rfl rfl)
theorem dX2_over_17 : decode cX2_over 17 = .ok (.getfield 13, 3) := dk_180 0 13 (dk_at dksX2_over_0 17 rfl rfl)
theorem dX2_over_20 : decode cX2_over 20 = .ok (.if_icmp .le 5, 3) := dk_164 0 5 (dk_at dksX2_over_0 20 rfl rfl)
theorem dX2_over_23 : decode cX2_over 23 = .ok (.aconst_null, 1) := dk_1 (dk_at dksX2_over_0 23 rfl rfl)
theorem dX2_over_24 : decode cX2_over 24 = .ok (.areturn, 1) := dk_176 (dk_at dksX2_over_1 0 rfl rfl)
theorem dX2_over_25 : decode cX2_over 25 = .ok (.iload_n 1, 1) := dk_27 (dk_at dksX2_over_1 1 rfl rfl)
theorem dX2_over_26 : decode cX2_over 26 = .ok (.aload_n 0, 1) := dk_42 (dk_at dksX2_over_1 2 rfl rfl)
theorem dX2_over_27 : decode cX2_over 27 = .ok (.getfield 7, 3) := dk_180 0 7 (dk_at dksX2_over_1 3 rfl rfl)
theorem dX2_over_30 : decode cX2_over 30 = .ok (.if_icmp .gt 16, 3) := dk_163 0 16 (dk_at dksX2_over_1 6 rfl rfl)
theorem dX2_over_33 : decode cX2_over 33 = .ok (.iload_n 2, 1) := dk_28 (dk_at dksX2_over_1 9 rfl rfl)
theorem dX2_over_34 : decode cX2_over 34 = .ok (.aload_n 0, 1) := dk_42 (dk_at dksX2_over_1 10 rfl rfl)
theorem dX2_over_35 : decode cX2_over 35 = .ok (.getfield 13, 3) := dk_180 0 13 (dk_at dksX2_over_1 11 rfl rfl)
theorem dX2_over_38 : decode cX2_over 38 = .ok (.if_icmp .lt 8, 3) := dk_161 0 8 (dk_at dksX2_over_1 14 rfl rfl)
theorem dX2_over_41 : decode cX2_over 41 = .ok (.aload_n 0, 1) := dk_42 (dk_at dksX2_over_1 17 rfl rfl)
theorem dX2_over_42 : decode cX2_over 42 = .ok (.getfield 16, 3) := dk_180 0 16 (dk_at dksX2_over_1 18 rfl rfl)
theorem dX2_over_45 : decode cX2_over 45 = .ok (.areturn, 1) := dk_176 (dk_at dksX2_over_1 21 rfl rfl)
theorem dX2_over_46 : decode cX2_over 46 = .ok (.aload_n 0, 1) := dk_42 (dk_at dksX2_over_1 22 rfl rfl)
theorem dX2_over_47 : decode cX2_over 47 = .ok (.getfield 26, 3) := dk_180 0 26 (dk_at dksX2_over_2 0 rfl rfl)
theorem dX2_over_50 : decode cX2_over 50 = .ok (.ifnonnull 7, 3) := dk_199 0 7 (dk_at dksX2_over_2 3 rfl rfl)
theorem dX2_over_53 : decode cX2_over 53 = .ok (.aconst_null, 1) := dk_1 (dk_at dksX2_over_2 6 rfl rfl)
theorem dX2_over_54 : decode cX2_over 54 = .ok (.goto 12, 3) := dk_167 0 12 (dk_at dksX2_over_2 7 rfl rfl)
theorem dX2_over_57 : decode cX2_over 57 = .ok (.aload_n 0, 1) := dk_42 (dk_at dksX2_over_2 10 rfl rfl)
theorem dX2_over_58 : decode cX2_over 58 = .ok (.getfield 26, 3) := dk_180 0 26 (dk_at dksX2_over_2 11 rfl rfl)
theorem dX2_over_61 : decode cX2_over 61 = .ok (.iload_n 1, 1) := dk_27 (dk_at dksX2_over_2 14 rfl rfl)
theorem dX2_over_62 : decode cX2_over 62 = .ok (.iload_n 2, 1) := dk_28 (dk_at dksX2_over_2 15 rfl rfl)
theorem dX2_over_63 : decode cX2_over 63 = .ok (.invokevirtual 40, 3) := dk_182 0 40 (dk_at dksX2_over_2 16 rfl rfl)
theorem dX2_over_66 : decode cX2_over 66 = .ok (.astore_n 3, 1) := dk_78 (dk_at dksX2_over_2 19 rfl rfl)
theorem dX2_over_67 : decode cX2_over 67 = .ok (.aload_n 0, 1) := dk_42 (dk_at dksX2_over_2 20 rfl rfl)
theorem dX2_over_68 : decode cX2_over 68 = .ok (.getfield 37, 3) := dk_180 0 37 (dk_at dksX2_over_2 21 rfl rfl)
theorem dX2_over_71 : decode cX2_over 71 = .ok (.ifnonnull 7, 3) := dk_199 0 7 (dk_at dksX2_over_3 0 rfl rfl)
theorem dX2_over_74 : decode cX2_over 74 = .ok (.aconst_null, 1) := dk_1 (dk_at dksX2_over_3 3 rfl rfl)
theorem dX2_over_75 : decode cX2_over 75 = .ok (.goto 12, 3) := dk_167 0 12 (dk_at dksX2_over_3 4 rfl rfl)
theorem dX2_over_78 : decode cX2_over 78 = .ok (.aload_n 0, 1) := dk_42 (dk_at dksX2_over_3 7 rfl rfl)
theorem dX2_over_79 : decode cX2_over 79 = .ok (.getfield 37, 3) := dk_180 0 37 (dk_at dksX2_over_3 8 rfl rfl)
theorem dX2_over_82 : decode cX2_over 82 = .ok (.iload_n 1, 1) := dk_27 (dk_at dksX2_over_3 11 rfl rfl)
theorem dX2_over_83 : decode cX2_over 83 = .ok (.iload_n 2, 1) := dk_28 (dk_at dksX2_over_3 12 rfl rfl)
theorem dX2_over_84 : decode cX2_over 84 = .ok (.invokevirtual 40, 3) := dk_182 0 40 (dk_at dksX2_over_3 13 rfl rfl)
theorem dX2_over_87 : decode cX2_over 87 = .ok (.astore 4, 2) := dk_58 4 (dk_at dksX2_over_3 16 rfl rfl)
theorem dX2_over_89 : decode cX2_over 89 = .ok (.aload_n 3, 1) := dk_45 (dk_at dksX2_over_3 18 rfl rfl)
theorem dX2_over_90 : decode cX2_over 90 = .ok (.ifnonnull 8, 3) := dk_199 0 8 (dk_at dksX2_over_3 19 rfl rfl)
theorem dX2_over_93 : decode cX2_over 93 = .ok (.aload 4, 2) := dk_25 4 (dk_at dksX2_over_3 22 rfl rfl)
theorem dX2_over_95 : decode cX2_over 95 = .ok (.goto 23, 3) := dk_167 0 23 (dk_at dksX2_over_4 0 rfl rfl)
theorem dX2_over_98 : decode cX2_over 98 = .ok (.aload 4, 2) := dk_25 4 (dk_at dksX2_over_4 3 rfl rfl)
theorem dX2_over_100 : decode cX2_over 100 = .ok (.ifnonnull 7, 3) := dk_199 0 7 (dk_at dksX2_over_4 5 rfl rfl)
theorem dX2_over_103 : decode cX2_over 103 = .ok (.aload_n 3, 1) := dk_45 (dk_at dksX2_over_4 8 rfl rfl)
theorem dX2_over_104 : decode cX2_over 104 = .ok (.goto 14, 3) := dk_167 0 14 (dk_at dksX2_over_4 9 rfl rfl)
theorem dX2_over_107 : decode cX2_over 107 = .ok (.aload_n 3, 1) := dk_45 (dk_at dksX2_over_4 12 rfl rfl)
theorem dX2_over_108 : decode cX2_over 108 = .ok (.aload 4, 2) := dk_25 4 (dk_at dksX2_over_4 13 rfl rfl)
theorem dX2_over_110 : decode cX2_over 110 = .ok (.invokeinterface 20 2, 5) := by decide +kernel
theorem dX2_over_115 : decode cX2_over 115 = .ok (.checkcast 21, 3) := dk_192 0 21 (dk_at dksX2_over_4 20 rfl rfl)
theorem dX2_over_118 : decode cX2_over 118 = .ok (.areturn, 1) := dk_176 (dk_at dksX2_over_4 23 rfl rfl)
theorem q77 : (Jvm.Cond.initialized "LogGrammar$Tree") ∈ lw_all := lw_g (lw_at lw_m1 5 rfl) rfl
theorem q149 : (Jvm.Cond.instantiable "LogGrammar$Tree" (5 : Nat)) ∈ lw_all := lw_g (lw_at lw_m1 77 rfl) rfl
theorem q151 : (Jvm.Cond.instanceMethod ({ cls := "LogGrammar$Tree", name := "<init>", desc := "(II)V" } : Jvm.MethodName)) ∈ lw_all := lw_g (lw_at lw_m1 79 rfl) rfl
theorem q152 : (Jvm.Cond.code ({ cls := "LogGrammar$Tree", name := "<init>", desc := "(II)V" } : Jvm.MethodName) prog_11_method_1_code (3 : Nat) (Option.none : Option Jvm.ClassFile.FieldType)) ∈ lw_all := lw_g (lw_at lw_m1 80 rfl) rfl
theorem q153 : (Jvm.Cond.methodLink "LogGrammar$Tree" (1 : Nat) ({ cls := "java/lang/Object", name := "<init>", desc := "()V" } : Jvm.MethodName)) ∈ lw_all := lw_g (lw_at lw_m1 81 rfl) rfl
theorem q154 : (Jvm.Cond.fieldLink "LogGrammar$Tree" (7 : Nat) "LogGrammar$Tree" "from" "I") ∈ lw_all := lw_g (lw_at lw_m1 82 rfl) rfl
theorem q155 : (Jvm.Cond.fieldLink "LogGrammar$Tree" (13 : Nat) "LogGrammar$Tree" "to" "I") ∈ lw_all := lw_g (lw_at lw_m1 83 rfl) rfl
theorem q156 : (Jvm.Cond.fieldLink "LogGrammar$Tree" (16 : Nat) "LogGrammar$Tree" "all" "LLogGrammar$Summary;") ∈ lw_all := lw_g (lw_at lw_m1 84 rfl) rfl
theorem q157 : (Jvm.Cond.fieldLink "LogGrammar$Tree" (26 : Nat) "LogGrammar$Tree" "lower" "LLogGrammar$Tree;") ∈ lw_all := lw_g (lw_at lw_m1 85 rfl) rfl
theorem q158 : (Jvm.Cond.fieldLink "LogGrammar$Tree" (37 : Nat) "LogGrammar$Tree" "upper" "LLogGrammar$Tree;") ∈ lw_all := lw_g (lw_at lw_m1 86 rfl) rfl
theorem q159 : (Jvm.Cond.laysFinal "LogGrammar$Tree" "LogGrammar$Tree" "from" "I") ∈ lw_all := lw_g (lw_at lw_m1 87 rfl) rfl
theorem q160 : (Jvm.Cond.soleField "LogGrammar$Tree" "from") ∈ lw_all := lw_g (lw_at lw_m1 88 rfl) rfl
theorem q161 : (Jvm.Cond.laysFinal "LogGrammar$Tree" "LogGrammar$Tree" "to" "I") ∈ lw_all := lw_g (lw_at lw_m1 89 rfl) rfl
theorem q162 : (Jvm.Cond.soleField "LogGrammar$Tree" "to") ∈ lw_all := lw_g (lw_at lw_m1 90 rfl) rfl
theorem q163 : (Jvm.Cond.lays "LogGrammar$Tree" "LogGrammar$Tree" "all" "LLogGrammar$Summary;") ∈ lw_all := lw_g (lw_at lw_m1 91 rfl) rfl
theorem q164 : (Jvm.Cond.soleField "LogGrammar$Tree" "all") ∈ lw_all := lw_g (lw_at lw_m1 92 rfl) rfl
theorem q165 : (Jvm.Cond.lays "LogGrammar$Tree" "LogGrammar$Tree" "lower" "LLogGrammar$Tree;") ∈ lw_all := lw_g (lw_at lw_m1 93 rfl) rfl
theorem q166 : (Jvm.Cond.soleField "LogGrammar$Tree" "lower") ∈ lw_all := lw_g (lw_at lw_m1 94 rfl) rfl
theorem q167 : (Jvm.Cond.lays "LogGrammar$Tree" "LogGrammar$Tree" "upper" "LLogGrammar$Tree;") ∈ lw_all := lw_g (lw_at lw_m1 95 rfl) rfl
theorem q168 : (Jvm.Cond.soleField "LogGrammar$Tree" "upper") ∈ lw_all := lw_g (lw_at lw_m1 96 rfl) rfl
theorem q169 : (Jvm.Cond.superclass "LogGrammar$Tree" "java/lang/Object") ∈ lw_all := lw_g (lw_at lw_m1 97 rfl) rfl
theorem q217 : (Jvm.Cond.selects "LogGrammar$Tree" ({ cls := "java/lang/Object", name := "getClass", desc := "()Ljava/lang/Class;" } : Jvm.MethodName) ({ cls := "java/lang/Object", name := "getClass", desc := "()Ljava/lang/Class;" } : Jvm.MethodName)) ∈ lw_all := lw_g (lw_at lw_m1 145 rfl) rfl
theorem q556 : (Jvm.Cond.selects "LogGrammar$Tree" ({ cls := "java/lang/Object", name := "equals", desc := "(Ljava/lang/Object;)Z" } : Jvm.MethodName) ({ cls := "java/lang/Object", name := "equals", desc := "(Ljava/lang/Object;)Z" } : Jvm.MethodName)) ∈ lw_all := lw_g (lw_at lw_m3 4 rfl) rfl
theorem q1089 : (Jvm.Cond.instanceMethod ({ cls := "LogGrammar$Tree", name := "add", desc := "(ILLogGrammar$Summary;)V" } : Jvm.MethodName)) ∈ lw_all := lw_g (lw_at lw_m5 57 rfl) rfl
theorem q1090 : (Jvm.Cond.selects "LogGrammar$Tree" ({ cls := "LogGrammar$Tree", name := "add", desc := "(ILLogGrammar$Summary;)V" } : Jvm.MethodName) ({ cls := "LogGrammar$Tree", name := "add", desc := "(ILLogGrammar$Summary;)V" } : Jvm.MethodName)) ∈ lw_all := lw_g (lw_at lw_m5 58 rfl) rfl
theorem q1091 : (Jvm.Cond.code ({ cls := "LogGrammar$Tree", name := "add", desc := "(ILLogGrammar$Summary;)V" } : Jvm.MethodName) prog_11_method_2_code (4 : Nat) (Option.none : Option Jvm.ClassFile.FieldType)) ∈ lw_all := lw_g (lw_at lw_m5 59 rfl) rfl
theorem q1092 : (Jvm.Cond.interfaceEntry "LogGrammar$Tree" (20 : Nat)) ∈ lw_tbl := lw_at lw_m5 60 rfl
theorem q1093 : (Jvm.Cond.methodLink "LogGrammar$Tree" (20 : Nat) ({ cls := "LogGrammar$Summary", name := "join", desc := "(Ljava/lang/Object;)Ljava/lang/Object;" } : Jvm.MethodName)) ∈ lw_all := lw_g (lw_at lw_m5 61 rfl) rfl
theorem q1109 : (Jvm.Cond.classLink "LogGrammar$Tree" (21 : Nat) "LogGrammar$Summary") ∈ lw_all := lw_g (lw_at lw_m5 77 rfl) rfl
theorem q1110 : (Jvm.Cond.classLink "LogGrammar$Tree" (8 : Nat) "LogGrammar$Tree") ∈ lw_all := lw_g (lw_at lw_m5 78 rfl) rfl
theorem q1111 : (Jvm.Cond.methodLink "LogGrammar$Tree" (30 : Nat) ({ cls := "LogGrammar$Tree", name := "<init>", desc := "(II)V" } : Jvm.MethodName)) ∈ lw_all := lw_g (lw_at lw_m5 79 rfl) rfl
theorem q1112 : (Jvm.Cond.methodLink "LogGrammar$Tree" (33 : Nat) ({ cls := "LogGrammar$Tree", name := "add", desc := "(ILLogGrammar$Summary;)V" } : Jvm.MethodName)) ∈ lw_all := lw_g (lw_at lw_m5 80 rfl) rfl
theorem q1497 : (Jvm.Cond.instanceMethod ({ cls := "LogGrammar$Tree", name := "over", desc := "(II)LLogGrammar$Summary;" } : Jvm.MethodName)) ∈ lw_all := lw_g (lw_at lw_m6 225 rfl) rfl
theorem q1498 : (Jvm.Cond.selects "LogGrammar$Tree" ({ cls := "LogGrammar$Tree", name := "over", desc := "(II)LLogGrammar$Summary;" } : Jvm.MethodName) ({ cls := "LogGrammar$Tree", name := "over", desc := "(II)LLogGrammar$Summary;" } : Jvm.MethodName)) ∈ lw_all := lw_g (lw_at lw_m6 226 rfl) rfl
theorem q1499 : (Jvm.Cond.code ({ cls := "LogGrammar$Tree", name := "over", desc := "(II)LLogGrammar$Summary;" } : Jvm.MethodName) prog_11_method_3_code (5 : Nat) (Option.some (Jvm.ClassFile.FieldType.object "LogGrammar$Summary"))) ∈ lw_all := lw_g (lw_at lw_m6 227 rfl) rfl
theorem q1500 : (Jvm.Cond.methodLink "LogGrammar$Tree" (40 : Nat) ({ cls := "LogGrammar$Tree", name := "over", desc := "(II)LLogGrammar$Summary;" } : Jvm.MethodName)) ∈ lw_all := lw_g (lw_at lw_m6 228 rfl) rfl
theorem q2157 : (Jvm.Cond.castable "LogGrammar$Tree" "java/lang/Object") ∈ lw_tbl := lw_at lw_m9 165 rfl
theorem in_X2 : ∀ w ∈ wsX20, w ∈ lw_all := lw_in wsX20 [159, 161, 163, 165, 167] (by decide +kernel) (by decide +kernel)
/-! LogGrammar$Event -/
set_option maxRecDepth 100000
def RX4 : String := "LogGrammar$Event"
def TX4 : u_T := fun k => match k with
  | 0 => ("LogGrammar$Event", "number", "I", true)
  | 1 => ("LogGrammar$Event", "time", "I", true)
  | 2 => ("LogGrammar$Event", "node", "I", true)
  | 3 => ("LogGrammar$Event", "kind", "I", true)
  | 4 => ("LogGrammar$Event", "id", "I", true)
  | 5 => ("LogGrammar$Event", "value", "I", true)
  | _ => ("LogGrammar$Event", "isLate", "Z", true)
def tyX4 : Nat → FieldType := fun k => match k with
  | 0 => .int
  | 1 => .int
  | 2 => .int
  | 3 => .int
  | 4 => .int
  | 5 => .int
  | _ => .boolean
abbrev wsX40 : List Cond := u_ws RX4 TX4 7
theorem nmX4 : ∀ a, a < 7 → ∀ b, b < 7 → a ≠ b → (TX4 a).2.1 ≠ (TX4 b).2.1 := by decide +kernel
theorem tyX4_ok : ∀ k, k < 7 → parseFieldDescriptor (TX4 k).2.2.1 = some (tyX4 k) := by decide +kernel
abbrev cX4_init : ByteArray := prog_2_method_1_code
def yX4_init : MethodName := ⟨RX4, "<init>", "(IIIIIIZ)V"⟩
def dkwX4_init_1 : List UInt8 := [181, 0, 19, 42, 21, 5, 181, 0, 22, 42, 21, 6, 181, 0, 25, 42, 21, 7, 181, 0, 28, 177]
abbrev dktX4_init_1 : List UInt8 := dkwX4_init_1 ++ []
def dkwX4_init_0 : List UInt8 := [42, 183, 0, 1, 42, 27, 181, 0, 7, 42, 28, 181, 0, 13, 42, 29, 181, 0, 16, 42, 21, 4]
abbrev dktX4_init_0 : List UInt8 := dkwX4_init_0 ++ dktX4_init_1
theorem dksX4_init_0 : cX4_init.data.toList.drop 0 = dktX4_init_0 := by decide +kernel
theorem dksX4_init_1 : cX4_init.data.toList.drop 22 = dktX4_init_1 := dk_seg dksX4_init_0 22 rfl rfl
theorem dX4_init_0 : decode cX4_init 0 = .ok (.aload_n 0, 1) := dk_42 (dk_at dksX4_init_0 0 rfl rfl)
theorem dX4_init_1 : decode cX4_init 1 = .ok (.invokespecial 1, 3) := dk_183 0 1 (dk_at dksX4_init_0 1 rfl rfl)
theorem dX4_init_4 : decode cX4_init 4 = .ok (.aload_n 0, 1) := dk_42 (dk_at dksX4_init_0 4 rfl rfl)
theorem dX4_init_5 : decode cX4_init 5 = .ok (.iload_n 1, 1) := dk_27 (dk_at dksX4_init_0 5 rfl rfl)
theorem dX4_init_6 : decode cX4_init 6 = .ok (.putfield 7, 3) := dk_181 0 7 (dk_at dksX4_init_0 6 rfl rfl)
theorem dX4_init_9 : decode cX4_init 9 = .ok (.aload_n 0, 1) := dk_42 (dk_at dksX4_init_0 9 rfl rfl)
theorem dX4_init_10 : decode cX4_init 10 = .ok (.iload_n 2, 1) := dk_28 (dk_at dksX4_init_0 10 rfl rfl)
theorem dX4_init_11 : decode cX4_init 11 = .ok (.putfield 13, 3) := dk_181 0 13 (dk_at dksX4_init_0 11 rfl rfl)
theorem dX4_init_14 : decode cX4_init 14 = .ok (.aload_n 0, 1) := dk_42 (dk_at dksX4_init_0 14 rfl rfl)
theorem dX4_init_15 : decode cX4_init 15 = .ok (.iload_n 3, 1) := dk_29 (dk_at dksX4_init_0 15 rfl rfl)
theorem dX4_init_16 : decode cX4_init 16 = .ok (.putfield 16, 3) := dk_181 0 16 (dk_at dksX4_init_0 16 rfl rfl)
theorem dX4_init_19 : decode cX4_init 19 = .ok (.aload_n 0, 1) := dk_42 (dk_at dksX4_init_0 19 rfl rfl)
theorem dX4_init_20 : decode cX4_init 20 = .ok (.iload 4, 2) := dk_21 4 (dk_at dksX4_init_0 20 rfl rfl)
theorem dX4_init_22 : decode cX4_init 22 = .ok (.putfield 19, 3) := dk_181 0 19 (dk_at dksX4_init_1 0 rfl rfl)
theorem dX4_init_25 : decode cX4_init 25 = .ok (.aload_n 0, 1) := dk_42 (dk_at dksX4_init_1 3 rfl rfl)
theorem dX4_init_26 : decode cX4_init 26 = .ok (.iload 5, 2) := dk_21 5 (dk_at dksX4_init_1 4 rfl rfl)
theorem dX4_init_28 : decode cX4_init 28 = .ok (.putfield 22, 3) := dk_181 0 22 (dk_at dksX4_init_1 6 rfl rfl)
theorem dX4_init_31 : decode cX4_init 31 = .ok (.aload_n 0, 1) := dk_42 (dk_at dksX4_init_1 9 rfl rfl)
theorem dX4_init_32 : decode cX4_init 32 = .ok (.iload 6, 2) := dk_21 6 (dk_at dksX4_init_1 10 rfl rfl)
theorem dX4_init_34 : decode cX4_init 34 = .ok (.putfield 25, 3) := dk_181 0 25 (dk_at dksX4_init_1 12 rfl rfl)
theorem dX4_init_37 : decode cX4_init 37 = .ok (.aload_n 0, 1) := dk_42 (dk_at dksX4_init_1 15 rfl rfl)
theorem dX4_init_38 : decode cX4_init 38 = .ok (.iload 7, 2) := dk_21 7 (dk_at dksX4_init_1 16 rfl rfl)
theorem dX4_init_40 : decode cX4_init 40 = .ok (.putfield 28, 3) := dk_181 0 28 (dk_at dksX4_init_1 18 rfl rfl)
theorem dX4_init_43 : decode cX4_init 43 = .ok (.return_, 1) := dk_177 (dk_at dksX4_init_1 21 rfl rfl)
abbrev cX4_isAhead : ByteArray := prog_2_method_2_code
def yX4_isAhead : MethodName := ⟨RX4, "isAhead", "(LLogGrammar$Event;)Z"⟩
def dkwX4_isAhead_3 : List UInt8 := [162, 0, 7, 4, 167, 0, 4, 3, 172]
abbrev dktX4_isAhead_3 : List UInt8 := dkwX4_isAhead_3 ++ []
def dkwX4_isAhead_2 : List UInt8 := [180, 0, 16, 162, 0, 7, 4, 167, 0, 23, 3, 167, 0, 19, 42, 180, 0, 7, 43, 180, 0, 7]
abbrev dktX4_isAhead_2 : List UInt8 := dkwX4_isAhead_2 ++ dktX4_isAhead_3
def dkwX4_isAhead_1 : List UInt8 := [167, 0, 53, 3, 167, 0, 49, 42, 180, 0, 16, 43, 180, 0, 16, 159, 0, 22, 42, 180, 0, 16, 43]
abbrev dktX4_isAhead_1 : List UInt8 := dkwX4_isAhead_1 ++ dktX4_isAhead_2
def dkwX4_isAhead_0 : List UInt8 := [42, 180, 0, 13, 43, 180, 0, 13, 159, 0, 22, 42, 180, 0, 13, 43, 180, 0, 13, 162, 0, 7, 4]
abbrev dktX4_isAhead_0 : List UInt8 := dkwX4_isAhead_0 ++ dktX4_isAhead_1
theorem dksX4_isAhead_0 : cX4_isAhead.data.toList.drop 0 = dktX4_isAhead_0 := by decide +kernel
theorem dksX4_isAhead_1 : cX4_isAhead.data.toList.drop 23 = dktX4_isAhead_1 := dk_seg dksX4_isAhead_0 23 rfl rfl
theorem dksX4_isAhead_2 : cX4_isAhead.data.toList.drop 46 = dktX4_isAhead_2 := dk_seg dksX4_isAhead_1 23 rfl rfl
theorem dksX4_isAhead_3 : cX4_isAhead.data.toList.drop 68 = dktX4_isAhead_3 := dk_seg dksX4_isAhead_2 22 rfl rfl
theorem dX4_isAhead_0 : decode cX4_isAhead 0 = .ok (.aload_n 0, 1) := dk_42 (dk_at dksX4_isAhead_0 0 rfl rfl)
theorem dX4_isAhead_1 : decode cX4_isAhead 1 = .ok (.getfield 13, 3) := dk_180 0 13 (dk_at dksX4_isAhead_0 1 rfl rfl)
theorem dX4_isAhead_4 : decode cX4_isAhead 4 = .ok (.aload_n 1, 1) := dk_43 (dk_at dksX4_isAhead_0 4 rfl rfl)
theorem dX4_isAhead_5 : decode cX4_isAhead 5 = .ok (.getfield 13, 3) := dk_180 0 13 (dk_at dksX4_isAhead_0 5 rfl rfl)
theorem dX4_isAhead_8 : decode cX4_isAhead 8 = .ok (.if_icmp .eq 22, 3) := dk_159 0 22 (dk_at dksX4_isAhead_0 8 rfl rfl)
theorem dX4_isAhead_11 : decode cX4_isAhead 11 = .ok (.aload_n 0, 1) := dk_42 (dk_at dksX4_isAhead_0 11 rfl rfl)
theorem dX4_isAhead_12 : decode cX4_isAhead 12 = .ok (.getfield 13, 3) := dk_180 0 13 (dk_at dksX4_isAhead_0 12 rfl rfl)
theorem dX4_isAhead_15 : decode cX4_isAhead 15 = .ok (.aload_n 1, 1) := dk_43 (dk_at dksX4_isAhead_0 15 rfl rfl)
theorem dX4_isAhead_16 : decode cX4_isAhead 16 = .ok (.getfield 13, 3) := dk_180 0 13 (dk_at dksX4_isAhead_0 16 rfl rfl)
theorem dX4_isAhead_19 : decode cX4_isAhead 19 = .ok (.if_icmp .ge 7, 3) := dk_162 0 7 (dk_at dksX4_isAhead_0 19 rfl rfl)
theorem dX4_isAhead_22 : decode cX4_isAhead 22 = .ok (.iconst 1, 1) := dk_4 (dk_at dksX4_isAhead_0 22 rfl rfl)
theorem dX4_isAhead_23 : decode cX4_isAhead 23 = .ok (.goto 53, 3) := dk_167 0 53 (dk_at dksX4_isAhead_1 0 rfl rfl)
theorem dX4_isAhead_26 : decode cX4_isAhead 26 = .ok (.iconst 0, 1) := dk_3 (dk_at dksX4_isAhead_1 3 rfl rfl)
theorem dX4_isAhead_27 : decode cX4_isAhead 27 = .ok (.goto 49, 3) := dk_167 0 49 (dk_at dksX4_isAhead_1 4 rfl rfl)
theorem dX4_isAhead_30 : decode cX4_isAhead 30 = .ok (.aload_n 0, 1) := dk_42 (dk_at dksX4_isAhead_1 7 rfl rfl)
theorem dX4_isAhead_31 : decode cX4_isAhead 31 = .ok (.getfield 16, 3) := dk_180 0 16 (dk_at dksX4_isAhead_1 8 rfl rfl)
theorem dX4_isAhead_34 : decode cX4_isAhead 34 = .ok (.aload_n 1, 1) := dk_43 (dk_at dksX4_isAhead_1 11 rfl rfl)
theorem dX4_isAhead_35 : decode cX4_isAhead 35 = .ok (.getfield 16, 3) := dk_180 0 16 (dk_at dksX4_isAhead_1 12 rfl rfl)
theorem dX4_isAhead_38 : decode cX4_isAhead 38 = .ok (.if_icmp .eq 22, 3) := dk_159 0 22 (dk_at dksX4_isAhead_1 15 rfl rfl)
theorem dX4_isAhead_41 : decode cX4_isAhead 41 = .ok (.aload_n 0, 1) := dk_42 (dk_at dksX4_isAhead_1 18 rfl rfl)
theorem dX4_isAhead_42 : decode cX4_isAhead 42 = .ok (.getfield 16, 3) := dk_180 0 16 (dk_at dksX4_isAhead_1 19 rfl rfl)
theorem dX4_isAhead_45 : decode cX4_isAhead 45 = .ok (.aload_n 1, 1) := dk_43 (dk_at dksX4_isAhead_1 22 rfl rfl)
theorem dX4_isAhead_46 : decode cX4_isAhead 46 = .ok (.getfield 16, 3) := dk_180 0 16 (dk_at dksX4_isAhead_2 0 rfl rfl)
theorem dX4_isAhead_49 : decode cX4_isAhead 49 = .ok (.if_icmp .ge 7, 3) := dk_162 0 7 (dk_at dksX4_isAhead_2 3 rfl rfl)
theorem dX4_isAhead_52 : decode cX4_isAhead 52 = .ok (.iconst 1, 1) := dk_4 (dk_at dksX4_isAhead_2 6 rfl rfl)
theorem dX4_isAhead_53 : decode cX4_isAhead 53 = .ok (.goto 23, 3) := dk_167 0 23 (dk_at dksX4_isAhead_2 7 rfl rfl)
theorem dX4_isAhead_56 : decode cX4_isAhead 56 = .ok (.iconst 0, 1) := dk_3 (dk_at dksX4_isAhead_2 10 rfl rfl)
theorem dX4_isAhead_57 : decode cX4_isAhead 57 = .ok (.goto 19, 3) := dk_167 0 19 (dk_at dksX4_isAhead_2 11 rfl rfl)
theorem dX4_isAhead_60 : decode cX4_isAhead 60 = .ok (.aload_n 0, 1) := dk_42 (dk_at dksX4_isAhead_2 14 rfl rfl)
theorem dX4_isAhead_61 : decode cX4_isAhead 61 = .ok (.getfield 7, 3) := dk_180 0 7 (dk_at dksX4_isAhead_2 15 rfl rfl)
theorem dX4_isAhead_64 : decode cX4_isAhead 64 = .ok (.aload_n 1, 1) := dk_43 (dk_at dksX4_isAhead_2 18 rfl rfl)
theorem dX4_isAhead_65 : decode cX4_isAhead 65 = .ok (.getfield 7, 3) := dk_180 0 7 (dk_at dksX4_isAhead_2 19 rfl rfl)
theorem dX4_isAhead_68 : decode cX4_isAhead 68 = .ok (.if_icmp .ge 7, 3) := dk_162 0 7 (dk_at dksX4_isAhead_3 0 rfl rfl)
theorem dX4_isAhead_71 : decode cX4_isAhead 71 = .ok (.iconst 1, 1) := dk_4 (dk_at dksX4_isAhead_3 3 rfl rfl)
theorem dX4_isAhead_72 : decode cX4_isAhead 72 = .ok (.goto 4, 3) := dk_167 0 4 (dk_at dksX4_isAhead_3 4 rfl rfl)
theorem dX4_isAhead_75 : decode cX4_isAhead 75 = .ok (.iconst 0, 1) := dk_3 (dk_at dksX4_isAhead_3 7 rfl rfl)
theorem dX4_isAhead_76 : decode cX4_isAhead 76 = .ok (.ireturn, 1) := dk_172 (dk_at dksX4_isAhead_3 8 rfl rfl)
theorem q91 : (Jvm.Cond.initialized "LogGrammar$Event") ∈ lw_all := lw_g (lw_at lw_m1 19 rfl) rfl
theorem q209 : (Jvm.Cond.selects "LogGrammar$Event" ({ cls := "java/lang/Object", name := "getClass", desc := "()Ljava/lang/Class;" } : Jvm.MethodName) ({ cls := "java/lang/Object", name := "getClass", desc := "()Ljava/lang/Class;" } : Jvm.MethodName)) ∈ lw_all := lw_g (lw_at lw_m1 137 rfl) rfl
theorem q546 : (Jvm.Cond.selects "LogGrammar$Event" ({ cls := "java/lang/Object", name := "equals", desc := "(Ljava/lang/Object;)Z" } : Jvm.MethodName) ({ cls := "java/lang/Object", name := "equals", desc := "(Ljava/lang/Object;)Z" } : Jvm.MethodName)) ∈ lw_all := lw_g (lw_at lw_m2 234 rfl) rfl
theorem q777 : (Jvm.Cond.instantiable "LogGrammar$Event" (7 : Nat)) ∈ lw_all := lw_g (lw_at lw_m3 225 rfl) rfl
theorem q779 : (Jvm.Cond.instanceMethod ({ cls := "LogGrammar$Event", name := "<init>", desc := "(IIIIIIZ)V" } : Jvm.MethodName)) ∈ lw_all := lw_g (lw_at lw_m3 227 rfl) rfl
theorem q780 : (Jvm.Cond.code ({ cls := "LogGrammar$Event", name := "<init>", desc := "(IIIIIIZ)V" } : Jvm.MethodName) prog_2_method_1_code (8 : Nat) (Option.none : Option Jvm.ClassFile.FieldType)) ∈ lw_all := lw_g (lw_at lw_m3 228 rfl) rfl
theorem q781 : (Jvm.Cond.methodLink "LogGrammar$Event" (1 : Nat) ({ cls := "java/lang/Object", name := "<init>", desc := "()V" } : Jvm.MethodName)) ∈ lw_all := lw_g (lw_at lw_m3 229 rfl) rfl
theorem q782 : (Jvm.Cond.fieldLink "LogGrammar$Event" (7 : Nat) "LogGrammar$Event" "number" "I") ∈ lw_all := lw_g (lw_at lw_m3 230 rfl) rfl
theorem q785 : (Jvm.Cond.fieldLink "LogGrammar$Event" (13 : Nat) "LogGrammar$Event" "time" "I") ∈ lw_all := lw_g (lw_at lw_m3 233 rfl) rfl
theorem q789 : (Jvm.Cond.fieldLink "LogGrammar$Event" (16 : Nat) "LogGrammar$Event" "node" "I") ∈ lw_all := lw_g (lw_at lw_m3 237 rfl) rfl
theorem q791 : (Jvm.Cond.fieldLink "LogGrammar$Event" (19 : Nat) "LogGrammar$Event" "kind" "I") ∈ lw_all := lw_g (lw_at lw_m3 239 rfl) rfl
theorem q794 : (Jvm.Cond.fieldLink "LogGrammar$Event" (22 : Nat) "LogGrammar$Event" "id" "I") ∈ lw_all := lw_g (lw_at lw_m4 2 rfl) rfl
theorem q798 : (Jvm.Cond.fieldLink "LogGrammar$Event" (25 : Nat) "LogGrammar$Event" "value" "I") ∈ lw_all := lw_g (lw_at lw_m4 6 rfl) rfl
theorem q801 : (Jvm.Cond.fieldLink "LogGrammar$Event" (28 : Nat) "LogGrammar$Event" "isLate" "Z") ∈ lw_all := lw_g (lw_at lw_m4 9 rfl) rfl
theorem q803 : (Jvm.Cond.laysFinal "LogGrammar$Event" "LogGrammar$Event" "number" "I") ∈ lw_all := lw_g (lw_at lw_m4 11 rfl) rfl
theorem q804 : (Jvm.Cond.soleField "LogGrammar$Event" "number") ∈ lw_all := lw_g (lw_at lw_m4 12 rfl) rfl
theorem q805 : (Jvm.Cond.laysFinal "LogGrammar$Event" "LogGrammar$Event" "time" "I") ∈ lw_all := lw_g (lw_at lw_m4 13 rfl) rfl
theorem q806 : (Jvm.Cond.soleField "LogGrammar$Event" "time") ∈ lw_all := lw_g (lw_at lw_m4 14 rfl) rfl
theorem q807 : (Jvm.Cond.laysFinal "LogGrammar$Event" "LogGrammar$Event" "node" "I") ∈ lw_all := lw_g (lw_at lw_m4 15 rfl) rfl
theorem q808 : (Jvm.Cond.soleField "LogGrammar$Event" "node") ∈ lw_all := lw_g (lw_at lw_m4 16 rfl) rfl
theorem q809 : (Jvm.Cond.laysFinal "LogGrammar$Event" "LogGrammar$Event" "kind" "I") ∈ lw_all := lw_g (lw_at lw_m4 17 rfl) rfl
theorem q810 : (Jvm.Cond.soleField "LogGrammar$Event" "kind") ∈ lw_all := lw_g (lw_at lw_m4 18 rfl) rfl
theorem q811 : (Jvm.Cond.laysFinal "LogGrammar$Event" "LogGrammar$Event" "id" "I") ∈ lw_all := lw_g (lw_at lw_m4 19 rfl) rfl
theorem q812 : (Jvm.Cond.soleField "LogGrammar$Event" "id") ∈ lw_all := lw_g (lw_at lw_m4 20 rfl) rfl
theorem q813 : (Jvm.Cond.laysFinal "LogGrammar$Event" "LogGrammar$Event" "value" "I") ∈ lw_all := lw_g (lw_at lw_m4 21 rfl) rfl
theorem q814 : (Jvm.Cond.soleField "LogGrammar$Event" "value") ∈ lw_all := lw_g (lw_at lw_m4 22 rfl) rfl
theorem q815 : (Jvm.Cond.laysFinal "LogGrammar$Event" "LogGrammar$Event" "isLate" "Z") ∈ lw_all := lw_g (lw_at lw_m4 23 rfl) rfl
theorem q816 : (Jvm.Cond.soleField "LogGrammar$Event" "isLate") ∈ lw_all := lw_g (lw_at lw_m4 24 rfl) rfl
theorem q817 : (Jvm.Cond.superclass "LogGrammar$Event" "java/lang/Object") ∈ lw_all := lw_g (lw_at lw_m4 25 rfl) rfl
theorem q826 : (Jvm.Cond.instanceMethod ({ cls := "LogGrammar$Event", name := "isAhead", desc := "(LLogGrammar$Event;)Z" } : Jvm.MethodName)) ∈ lw_all := lw_g (lw_at lw_m4 34 rfl) rfl
theorem q827 : (Jvm.Cond.selects "LogGrammar$Event" ({ cls := "LogGrammar$Event", name := "isAhead", desc := "(LLogGrammar$Event;)Z" } : Jvm.MethodName) ({ cls := "LogGrammar$Event", name := "isAhead", desc := "(LLogGrammar$Event;)Z" } : Jvm.MethodName)) ∈ lw_all := lw_g (lw_at lw_m4 35 rfl) rfl
theorem q828 : (Jvm.Cond.code ({ cls := "LogGrammar$Event", name := "isAhead", desc := "(LLogGrammar$Event;)Z" } : Jvm.MethodName) prog_2_method_2_code (2 : Nat) (Option.some Jvm.ClassFile.FieldType.boolean)) ∈ lw_all := lw_g (lw_at lw_m4 36 rfl) rfl
theorem q2163 : (Jvm.Cond.castable "LogGrammar$Event" "java/lang/Object") ∈ lw_tbl := lw_at lw_m9 171 rfl
theorem in_X4 : ∀ w ∈ wsX40, w ∈ lw_all := lw_in wsX40 [803, 805, 807, 809, 811, 813, 815] (by decide +kernel) (by decide +kernel)
/-! LogGrammar$Stretch -/
set_option maxRecDepth 100000
def RX5 : String := "LogGrammar$Stretch"
def TX5 : u_T := fun k => match k with
  | 0 => ("LogGrammar$Stretch", "many", "I", true)
  | _ => ("LogGrammar$Stretch", "greatest", "I", true)
def tyX5 : Nat → FieldType := fun k => match k with
  | 0 => .int
  | _ => .int
abbrev wsX50 : List Cond := u_ws RX5 TX5 2
theorem nmX5 : ∀ a, a < 2 → ∀ b, b < 2 → a ≠ b → (TX5 a).2.1 ≠ (TX5 b).2.1 := by decide +kernel
theorem tyX5_ok : ∀ k, k < 2 → parseFieldDescriptor (TX5 k).2.2.1 = some (tyX5 k) := by decide +kernel
abbrev cX5_init : ByteArray := prog_9_method_1_code
def yX5_init : MethodName := ⟨RX5, "<init>", "(II)V"⟩
def dkwX5_init_0 : List UInt8 := [42, 183, 0, 1, 42, 27, 181, 0, 7, 42, 28, 181, 0, 13, 177]
abbrev dktX5_init_0 : List UInt8 := dkwX5_init_0 ++ []
theorem dksX5_init_0 : cX5_init.data.toList.drop 0 = dktX5_init_0 := by decide +kernel
theorem dX5_init_0 : decode cX5_init 0 = .ok (.aload_n 0, 1) := dk_42 (dk_at dksX5_init_0 0 rfl rfl)
theorem dX5_init_1 : decode cX5_init 1 = .ok (.invokespecial 1, 3) := dk_183 0 1 (dk_at dksX5_init_0 1 rfl rfl)
theorem dX5_init_4 : decode cX5_init 4 = .ok (.aload_n 0, 1) := dk_42 (dk_at dksX5_init_0 4 rfl rfl)
theorem dX5_init_5 : decode cX5_init 5 = .ok (.iload_n 1, 1) := dk_27 (dk_at dksX5_init_0 5 rfl rfl)
theorem dX5_init_6 : decode cX5_init 6 = .ok (.putfield 7, 3) := dk_181 0 7 (dk_at dksX5_init_0 6 rfl rfl)
theorem dX5_init_9 : decode cX5_init 9 = .ok (.aload_n 0, 1) := dk_42 (dk_at dksX5_init_0 9 rfl rfl)
theorem dX5_init_10 : decode cX5_init 10 = .ok (.iload_n 2, 1) := dk_28 (dk_at dksX5_init_0 10 rfl rfl)
theorem dX5_init_11 : decode cX5_init 11 = .ok (.putfield 13, 3) := dk_181 0 13 (dk_at dksX5_init_0 11 rfl rfl)
theorem dX5_init_14 : decode cX5_init 14 = .ok (.return_, 1) := dk_177 (dk_at dksX5_init_0 14 rfl rfl)
abbrev cX5_join : ByteArray := prog_9_method_3_code
def yX5_join : MethodName := ⟨RX5, "join", "(Ljava/lang/Object;)Ljava/lang/Object;"⟩
def dkwX5_join_0 : List UInt8 := [42, 43, 192, 0, 8, 182, 0, 25, 176]
abbrev dktX5_join_0 : List UInt8 := dkwX5_join_0 ++ []
theorem dksX5_join_0 : cX5_join.data.toList.drop 0 = dktX5_join_0 := by decide +kernel
theorem dX5_join_0 : decode cX5_join 0 = .ok (.aload_n 0, 1) := dk_42 (dk_at dksX5_join_0 0 rfl rfl)
theorem dX5_join_1 : decode cX5_join 1 = .ok (.aload_n 1, 1) := dk_43 (dk_at dksX5_join_0 1 rfl rfl)
theorem dX5_join_2 : decode cX5_join 2 = .ok (.checkcast 8, 3) := dk_192 0 8 (dk_at dksX5_join_0 2 rfl rfl)
theorem dX5_join_5 : decode cX5_join 5 = .ok (.invokevirtual 25, 3) := dk_182 0 25 (dk_at dksX5_join_0 5 rfl rfl)
theorem dX5_join_8 : decode cX5_join 8 = .ok (.areturn, 1) := dk_176 (dk_at dksX5_join_0 8 rfl rfl)
abbrev cX5_join_2 : ByteArray := prog_9_method_2_code
def yX5_join_2 : MethodName := ⟨RX5, "join", "(LLogGrammar$Stretch;)LLogGrammar$Stretch;"⟩
def dkwX5_join_2_1 : List UInt8 := [183, 0, 22, 176]
abbrev dktX5_join_2_1 : List UInt8 := dkwX5_join_2_1 ++ []
def dkwX5_join_2_0 : List UInt8 := [187, 0, 8, 89, 42, 180, 0, 7, 43, 180, 0, 7, 96, 42, 180, 0, 13, 43, 180, 0, 13, 184, 0, 16]
abbrev dktX5_join_2_0 : List UInt8 := dkwX5_join_2_0 ++ dktX5_join_2_1
theorem dksX5_join_2_0 : cX5_join_2.data.toList.drop 0 = dktX5_join_2_0 := by decide +kernel
theorem dksX5_join_2_1 : cX5_join_2.data.toList.drop 24 = dktX5_join_2_1 := dk_seg dksX5_join_2_0 24 rfl rfl
theorem dX5_join_2_0 : decode cX5_join_2 0 = .ok (.new 8, 3) := dk_187 0 8 (dk_at dksX5_join_2_0 0 rfl rfl)
theorem dX5_join_2_3 : decode cX5_join_2 3 = .ok (.dup, 1) := dk_89 (dk_at dksX5_join_2_0 3 rfl rfl)
theorem dX5_join_2_4 : decode cX5_join_2 4 = .ok (.aload_n 0, 1) := dk_42 (dk_at dksX5_join_2_0 4 rfl rfl)
theorem dX5_join_2_5 : decode cX5_join_2 5 = .ok (.getfield 7, 3) := dk_180 0 7 (dk_at dksX5_join_2_0 5 rfl rfl)
theorem dX5_join_2_8 : decode cX5_join_2 8 = .ok (.aload_n 1, 1) := dk_43 (dk_at dksX5_join_2_0 8 rfl rfl)
theorem dX5_join_2_9 : decode cX5_join_2 9 = .ok (.getfield 7, 3) := dk_180 0 7 (dk_at dksX5_join_2_0 9 rfl rfl)
theorem dX5_join_2_12 : decode cX5_join_2 12 = .ok (.iadd, 1) := dk_96 (dk_at dksX5_join_2_0 12 rfl rfl)
theorem dX5_join_2_13 : decode cX5_join_2 13 = .ok (.aload_n 0, 1) := dk_42 (dk_at dksX5_join_2_0 13 rfl rfl)
theorem dX5_join_2_14 : decode cX5_join_2 14 = .ok (.getfield 13, 3) := dk_180 0 13 (dk_at dksX5_join_2_0 14 rfl rfl)
theorem dX5_join_2_17 : decode cX5_join_2 17 = .ok (.aload_n 1, 1) := dk_43 (dk_at dksX5_join_2_0 17 rfl rfl)
theorem dX5_join_2_18 : decode cX5_join_2 18 = .ok (.getfield 13, 3) := dk_180 0 13 (dk_at dksX5_join_2_0 18 rfl rfl)
theorem dX5_join_2_21 : decode cX5_join_2 21 = .ok (.invokestatic 16, 3) := dk_184 0 16 (dk_at dksX5_join_2_0 21 rfl rfl)
theorem dX5_join_2_24 : decode cX5_join_2 24 = .ok (.invokespecial 22, 3) := dk_183 0 22 (dk_at dksX5_join_2_1 0 rfl rfl)
theorem dX5_join_2_27 : decode cX5_join_2 27 = .ok (.areturn, 1) := dk_176 (dk_at dksX5_join_2_1 3 rfl rfl)
theorem q100 : (Jvm.Cond.initialized "LogGrammar$Stretch") ∈ lw_all := lw_g (lw_at lw_m1 28 rfl) rfl
theorem q216 : (Jvm.Cond.selects "LogGrammar$Stretch" ({ cls := "java/lang/Object", name := "getClass", desc := "()Ljava/lang/Class;" } : Jvm.MethodName) ({ cls := "java/lang/Object", name := "getClass", desc := "()Ljava/lang/Class;" } : Jvm.MethodName)) ∈ lw_all := lw_g (lw_at lw_m1 144 rfl) rfl
theorem q555 : (Jvm.Cond.selects "LogGrammar$Stretch" ({ cls := "java/lang/Object", name := "equals", desc := "(Ljava/lang/Object;)Z" } : Jvm.MethodName) ({ cls := "java/lang/Object", name := "equals", desc := "(Ljava/lang/Object;)Z" } : Jvm.MethodName)) ∈ lw_all := lw_g (lw_at lw_m3 3 rfl) rfl
theorem q1074 : (Jvm.Cond.instantiable "LogGrammar$Stretch" (2 : Nat)) ∈ lw_all := lw_g (lw_at lw_m5 42 rfl) rfl
theorem q1076 : (Jvm.Cond.instanceMethod ({ cls := "LogGrammar$Stretch", name := "<init>", desc := "(II)V" } : Jvm.MethodName)) ∈ lw_all := lw_g (lw_at lw_m5 44 rfl) rfl
theorem q1077 : (Jvm.Cond.code ({ cls := "LogGrammar$Stretch", name := "<init>", desc := "(II)V" } : Jvm.MethodName) prog_9_method_1_code (3 : Nat) (Option.none : Option Jvm.ClassFile.FieldType)) ∈ lw_all := lw_g (lw_at lw_m5 45 rfl) rfl
theorem q1078 : (Jvm.Cond.methodLink "LogGrammar$Stretch" (1 : Nat) ({ cls := "java/lang/Object", name := "<init>", desc := "()V" } : Jvm.MethodName)) ∈ lw_all := lw_g (lw_at lw_m5 46 rfl) rfl
theorem q1079 : (Jvm.Cond.fieldLink "LogGrammar$Stretch" (7 : Nat) "LogGrammar$Stretch" "many" "I") ∈ lw_all := lw_g (lw_at lw_m5 47 rfl) rfl
theorem q1081 : (Jvm.Cond.fieldLink "LogGrammar$Stretch" (13 : Nat) "LogGrammar$Stretch" "greatest" "I") ∈ lw_all := lw_g (lw_at lw_m5 49 rfl) rfl
theorem q1083 : (Jvm.Cond.laysFinal "LogGrammar$Stretch" "LogGrammar$Stretch" "many" "I") ∈ lw_all := lw_g (lw_at lw_m5 51 rfl) rfl
theorem q1084 : (Jvm.Cond.soleField "LogGrammar$Stretch" "many") ∈ lw_all := lw_g (lw_at lw_m5 52 rfl) rfl
theorem q1085 : (Jvm.Cond.laysFinal "LogGrammar$Stretch" "LogGrammar$Stretch" "greatest" "I") ∈ lw_all := lw_g (lw_at lw_m5 53 rfl) rfl
theorem q1086 : (Jvm.Cond.soleField "LogGrammar$Stretch" "greatest") ∈ lw_all := lw_g (lw_at lw_m5 54 rfl) rfl
theorem q1087 : (Jvm.Cond.superclass "LogGrammar$Stretch" "java/lang/Object") ∈ lw_all := lw_g (lw_at lw_m5 55 rfl) rfl
theorem q1096 : (Jvm.Cond.castable "LogGrammar$Stretch" "LogGrammar$Summary") ∈ lw_tbl := lw_at lw_m5 64 rfl
theorem q1097 : (Jvm.Cond.selects "LogGrammar$Stretch" ({ cls := "LogGrammar$Summary", name := "join", desc := "(Ljava/lang/Object;)Ljava/lang/Object;" } : Jvm.MethodName) ({ cls := "LogGrammar$Stretch", name := "join", desc := "(Ljava/lang/Object;)Ljava/lang/Object;" } : Jvm.MethodName)) ∈ lw_all := lw_g (lw_at lw_m5 65 rfl) rfl
theorem q1098 : (Jvm.Cond.unhidden "LogGrammar$Stretch" "join" "(Ljava/lang/Object;)Ljava/lang/Object;") ∈ lw_tbl := lw_at lw_m5 66 rfl
theorem q1099 : (Jvm.Cond.instanceMethod ({ cls := "LogGrammar$Stretch", name := "join", desc := "(Ljava/lang/Object;)Ljava/lang/Object;" } : Jvm.MethodName)) ∈ lw_all := lw_g (lw_at lw_m5 67 rfl) rfl
theorem q1100 : (Jvm.Cond.publicMethod ({ cls := "LogGrammar$Stretch", name := "join", desc := "(Ljava/lang/Object;)Ljava/lang/Object;" } : Jvm.MethodName)) ∈ lw_tbl := lw_at lw_m5 68 rfl
theorem q1101 : (Jvm.Cond.code ({ cls := "LogGrammar$Stretch", name := "join", desc := "(Ljava/lang/Object;)Ljava/lang/Object;" } : Jvm.MethodName) prog_9_method_3_code (2 : Nat) (Option.some (Jvm.ClassFile.FieldType.object "java/lang/Object"))) ∈ lw_all := lw_g (lw_at lw_m5 69 rfl) rfl
theorem q1102 : (Jvm.Cond.classLink "LogGrammar$Stretch" (8 : Nat) "LogGrammar$Stretch") ∈ lw_all := lw_g (lw_at lw_m5 70 rfl) rfl
theorem q1103 : (Jvm.Cond.methodLink "LogGrammar$Stretch" (25 : Nat) ({ cls := "LogGrammar$Stretch", name := "join", desc := "(LLogGrammar$Stretch;)LLogGrammar$Stretch;" } : Jvm.MethodName)) ∈ lw_all := lw_g (lw_at lw_m5 71 rfl) rfl
theorem q1104 : (Jvm.Cond.instanceMethod ({ cls := "LogGrammar$Stretch", name := "join", desc := "(LLogGrammar$Stretch;)LLogGrammar$Stretch;" } : Jvm.MethodName)) ∈ lw_all := lw_g (lw_at lw_m5 72 rfl) rfl
theorem q1105 : (Jvm.Cond.selects "LogGrammar$Stretch" ({ cls := "LogGrammar$Stretch", name := "join", desc := "(LLogGrammar$Stretch;)LLogGrammar$Stretch;" } : Jvm.MethodName) ({ cls := "LogGrammar$Stretch", name := "join", desc := "(LLogGrammar$Stretch;)LLogGrammar$Stretch;" } : Jvm.MethodName)) ∈ lw_all := lw_g (lw_at lw_m5 73 rfl) rfl
theorem q1106 : (Jvm.Cond.code ({ cls := "LogGrammar$Stretch", name := "join", desc := "(LLogGrammar$Stretch;)LLogGrammar$Stretch;" } : Jvm.MethodName) prog_9_method_2_code (2 : Nat) (Option.some (Jvm.ClassFile.FieldType.object "LogGrammar$Stretch"))) ∈ lw_all := lw_g (lw_at lw_m5 74 rfl) rfl
theorem q1107 : (Jvm.Cond.methodLink "LogGrammar$Stretch" (16 : Nat) ({ cls := "java/lang/Math", name := "max", desc := "(II)I" } : Jvm.MethodName)) ∈ lw_all := lw_g (lw_at lw_m5 75 rfl) rfl
theorem q1108 : (Jvm.Cond.methodLink "LogGrammar$Stretch" (22 : Nat) ({ cls := "LogGrammar$Stretch", name := "<init>", desc := "(II)V" } : Jvm.MethodName)) ∈ lw_all := lw_g (lw_at lw_m5 76 rfl) rfl
theorem q2166 : (Jvm.Cond.castable "LogGrammar$Stretch" "java/lang/Object") ∈ lw_tbl := lw_at lw_m9 174 rfl
theorem in_X5 : ∀ w ∈ wsX50, w ∈ lw_all := lw_in wsX50 [1083, 1085] (by decide +kernel) (by decide +kernel)
/-! LogGrammar$Pair -/
set_option maxRecDepth 100000
def RX6 : String := "LogGrammar$Pair"
def TX6 : u_T := fun k => match k with
  | 0 => ("LogGrammar$Pair", "first", "Ljava/lang/Object;", true)
  | _ => ("LogGrammar$Pair", "second", "Ljava/lang/Object;", true)
def tyX6 : Nat → FieldType := fun k => match k with
  | 0 => .object "java/lang/Object"
  | _ => .object "java/lang/Object"
abbrev wsX60 : List Cond := u_ws RX6 TX6 2
theorem nmX6 : ∀ a, a < 2 → ∀ b, b < 2 → a ≠ b → (TX6 a).2.1 ≠ (TX6 b).2.1 := by decide +kernel
theorem tyX6_ok : ∀ k, k < 2 → parseFieldDescriptor (TX6 k).2.2.1 = some (tyX6 k) := by decide +kernel
abbrev cX6_init : ByteArray := prog_6_method_1_code
def yX6_init : MethodName := ⟨RX6, "<init>", "(Ljava/lang/Object;Ljava/lang/Object;)V"⟩
def dkwX6_init_0 : List UInt8 := [42, 183, 0, 1, 42, 43, 181, 0, 7, 42, 44, 181, 0, 13, 177]
abbrev dktX6_init_0 : List UInt8 := dkwX6_init_0 ++ []
theorem dksX6_init_0 : cX6_init.data.toList.drop 0 = dktX6_init_0 := by decide +kernel
theorem dX6_init_0 : decode cX6_init 0 = .ok (.aload_n 0, 1) := dk_42 (dk_at dksX6_init_0 0 rfl rfl)
theorem dX6_init_1 : decode cX6_init 1 = .ok (.invokespecial 1, 3) := dk_183 0 1 (dk_at dksX6_init_0 1 rfl rfl)
theorem dX6_init_4 : decode cX6_init 4 = .ok (.aload_n 0, 1) := dk_42 (dk_at dksX6_init_0 4 rfl rfl)
theorem dX6_init_5 : decode cX6_init 5 = .ok (.aload_n 1, 1) := dk_43 (dk_at dksX6_init_0 5 rfl rfl)
theorem dX6_init_6 : decode cX6_init 6 = .ok (.putfield 7, 3) := dk_181 0 7 (dk_at dksX6_init_0 6 rfl rfl)
theorem dX6_init_9 : decode cX6_init 9 = .ok (.aload_n 0, 1) := dk_42 (dk_at dksX6_init_0 9 rfl rfl)
theorem dX6_init_10 : decode cX6_init 10 = .ok (.aload_n 2, 1) := dk_44 (dk_at dksX6_init_0 10 rfl rfl)
theorem dX6_init_11 : decode cX6_init 11 = .ok (.putfield 13, 3) := dk_181 0 13 (dk_at dksX6_init_0 11 rfl rfl)
theorem dX6_init_14 : decode cX6_init 14 = .ok (.return_, 1) := dk_177 (dk_at dksX6_init_0 14 rfl rfl)
theorem q104 : (Jvm.Cond.initialized "LogGrammar$Pair") ∈ lw_all := lw_g (lw_at lw_m1 32 rfl) rfl
theorem q213 : (Jvm.Cond.selects "LogGrammar$Pair" ({ cls := "java/lang/Object", name := "getClass", desc := "()Ljava/lang/Class;" } : Jvm.MethodName) ({ cls := "java/lang/Object", name := "getClass", desc := "()Ljava/lang/Class;" } : Jvm.MethodName)) ∈ lw_all := lw_g (lw_at lw_m1 141 rfl) rfl
theorem q550 : (Jvm.Cond.selects "LogGrammar$Pair" ({ cls := "java/lang/Object", name := "equals", desc := "(Ljava/lang/Object;)Z" } : Jvm.MethodName) ({ cls := "java/lang/Object", name := "equals", desc := "(Ljava/lang/Object;)Z" } : Jvm.MethodName)) ∈ lw_all := lw_g (lw_at lw_m2 238 rfl) rfl
theorem q1136 : (Jvm.Cond.instantiable "LogGrammar$Pair" (2 : Nat)) ∈ lw_all := lw_g (lw_at lw_m5 104 rfl) rfl
theorem q1157 : (Jvm.Cond.instanceMethod ({ cls := "LogGrammar$Pair", name := "<init>", desc := "(Ljava/lang/Object;Ljava/lang/Object;)V" } : Jvm.MethodName)) ∈ lw_all := lw_g (lw_at lw_m5 125 rfl) rfl
theorem q1158 : (Jvm.Cond.code ({ cls := "LogGrammar$Pair", name := "<init>", desc := "(Ljava/lang/Object;Ljava/lang/Object;)V" } : Jvm.MethodName) prog_6_method_1_code (3 : Nat) (Option.none : Option Jvm.ClassFile.FieldType)) ∈ lw_all := lw_g (lw_at lw_m5 126 rfl) rfl
theorem q1159 : (Jvm.Cond.methodLink "LogGrammar$Pair" (1 : Nat) ({ cls := "java/lang/Object", name := "<init>", desc := "()V" } : Jvm.MethodName)) ∈ lw_all := lw_g (lw_at lw_m5 127 rfl) rfl
theorem q1160 : (Jvm.Cond.fieldLink "LogGrammar$Pair" (7 : Nat) "LogGrammar$Pair" "first" "Ljava/lang/Object;") ∈ lw_all := lw_g (lw_at lw_m5 128 rfl) rfl
theorem q1163 : (Jvm.Cond.fieldLink "LogGrammar$Pair" (13 : Nat) "LogGrammar$Pair" "second" "Ljava/lang/Object;") ∈ lw_all := lw_g (lw_at lw_m5 131 rfl) rfl
theorem q1165 : (Jvm.Cond.laysFinal "LogGrammar$Pair" "LogGrammar$Pair" "first" "Ljava/lang/Object;") ∈ lw_all := lw_g (lw_at lw_m5 133 rfl) rfl
theorem q1166 : (Jvm.Cond.soleField "LogGrammar$Pair" "first") ∈ lw_all := lw_g (lw_at lw_m5 134 rfl) rfl
theorem q1167 : (Jvm.Cond.laysFinal "LogGrammar$Pair" "LogGrammar$Pair" "second" "Ljava/lang/Object;") ∈ lw_all := lw_g (lw_at lw_m5 135 rfl) rfl
theorem q1168 : (Jvm.Cond.soleField "LogGrammar$Pair" "second") ∈ lw_all := lw_g (lw_at lw_m5 136 rfl) rfl
theorem q1169 : (Jvm.Cond.superclass "LogGrammar$Pair" "java/lang/Object") ∈ lw_all := lw_g (lw_at lw_m5 137 rfl) rfl
theorem q2169 : (Jvm.Cond.castable "LogGrammar$Pair" "java/lang/Object") ∈ lw_tbl := lw_at lw_m9 177 rfl
theorem in_X6 : ∀ w ∈ wsX60, w ∈ lw_all := lw_in wsX60 [1165, 1167] (by decide +kernel) (by decide +kernel)
/-! LogGrammar$Formula -/
set_option maxRecDepth 100000
def RX7 : String := "LogGrammar$Formula"
def TX7 : u_T := fun k => match k with
  | 0 => ("LogGrammar$Formula", "sort", "LLogGrammar$Sort;", true)
  | 1 => ("LogGrammar$Formula", "one", "I", true)
  | 2 => ("LogGrammar$Formula", "two", "I", true)
  | 3 => ("LogGrammar$Formula", "first", "LLogGrammar$Formula;", true)
  | 4 => ("LogGrammar$Formula", "second", "LLogGrammar$Formula;", true)
  | 5 => ("LogGrammar$Formula", "size", "I", true)
  | _ => ("LogGrammar$Formula", "at", "I", false)
def tyX7 : Nat → FieldType := fun k => match k with
  | 0 => .object "LogGrammar$Sort"
  | 1 => .int
  | 2 => .int
  | 3 => .object "LogGrammar$Formula"
  | 4 => .object "LogGrammar$Formula"
  | 5 => .int
  | _ => .int
abbrev wsX70 : List Cond := u_ws RX7 TX7 7
theorem nmX7 : ∀ a, a < 7 → ∀ b, b < 7 → a ≠ b → (TX7 a).2.1 ≠ (TX7 b).2.1 := by decide +kernel
theorem tyX7_ok : ∀ k, k < 7 → parseFieldDescriptor (TX7 k).2.2.1 = some (tyX7 k) := by decide +kernel
abbrev cX7_isSame : ByteArray := prog_3_method_2_code
def yX7_isSame : MethodName := ⟨RX7, "isSame", "(LLogGrammar$Formula;)Z"⟩
def dkwX7_isSame_3 : List UInt8 := [42, 180, 0, 26, 43, 180, 0, 26, 182, 0, 32, 153, 0, 7, 4, 167, 0, 4, 3, 172]
abbrev dktX7_isSame_3 : List UInt8 := dkwX7_isSame_3 ++ []
def dkwX7_isSame_2 : List UInt8 := [198, 0, 17, 42, 180, 0, 22, 43, 180, 0, 22, 182, 0, 32, 153, 0, 28, 42, 180, 0, 26, 198, 0, 17]
abbrev dktX7_isSame_2 : List UInt8 := dkwX7_isSame_2 ++ dktX7_isSame_3
def dkwX7_isSame_1 : List UInt8 := [180, 0, 19, 43, 180, 0, 19, 160, 0, 7, 4, 167, 0, 4, 3, 61, 28, 153, 0, 49, 42, 180, 0, 22]
abbrev dktX7_isSame_1 : List UInt8 := dkwX7_isSame_1 ++ dktX7_isSame_2
def dkwX7_isSame_0 : List UInt8 := [42, 180, 0, 9, 43, 180, 0, 9, 166, 0, 29, 42, 180, 0, 15, 43, 180, 0, 15, 160, 0, 18, 42]
abbrev dktX7_isSame_0 : List UInt8 := dkwX7_isSame_0 ++ dktX7_isSame_1
theorem dksX7_isSame_0 : cX7_isSame.data.toList.drop 0 = dktX7_isSame_0 := by decide +kernel
theorem dksX7_isSame_1 : cX7_isSame.data.toList.drop 23 = dktX7_isSame_1 := dk_seg dksX7_isSame_0 23 rfl rfl
theorem dksX7_isSame_2 : cX7_isSame.data.toList.drop 47 = dktX7_isSame_2 := dk_seg dksX7_isSame_1 24 rfl rfl
theorem dksX7_isSame_3 : cX7_isSame.data.toList.drop 71 = dktX7_isSame_3 := dk_seg dksX7_isSame_2 24 rfl rfl
theorem dX7_isSame_0 : decode cX7_isSame 0 = .ok (.aload_n 0, 1) := dk_42 (dk_at dksX7_isSame_0 0 rfl rfl)
theorem dX7_isSame_1 : decode cX7_isSame 1 = .ok (.getfield 9, 3) := dk_180 0 9 (dk_at dksX7_isSame_0 1 rfl rfl)
theorem dX7_isSame_4 : decode cX7_isSame 4 = .ok (.aload_n 1, 1) := dk_43 (dk_at dksX7_isSame_0 4 rfl rfl)
theorem dX7_isSame_5 : decode cX7_isSame 5 = .ok (.getfield 9, 3) := dk_180 0 9 (dk_at dksX7_isSame_0 5 rfl rfl)
theorem dX7_isSame_8 : decode cX7_isSame 8 = .ok (.if_acmp .ne 29, 3) := dk_166 0 29 (dk_at dksX7_isSame_0 8 rfl rfl)
theorem dX7_isSame_11 : decode cX7_isSame 11 = .ok (.aload_n 0, 1) := dk_42 (dk_at dksX7_isSame_0 11 rfl rfl)
theorem dX7_isSame_12 : decode cX7_isSame 12 = .ok (.getfield 15, 3) := dk_180 0 15 (dk_at dksX7_isSame_0 12 rfl rfl)
theorem dX7_isSame_15 : decode cX7_isSame 15 = .ok (.aload_n 1, 1) := dk_43 (dk_at dksX7_isSame_0 15 rfl rfl)
theorem dX7_isSame_16 : decode cX7_isSame 16 = .ok (.getfield 15, 3) := dk_180 0 15 (dk_at dksX7_isSame_0 16 rfl rfl)
theorem dX7_isSame_19 : decode cX7_isSame 19 = .ok (.if_icmp .ne 18, 3) := dk_160 0 18 (dk_at dksX7_isSame_0 19 rfl rfl)
theorem dX7_isSame_22 : decode cX7_isSame 22 = .ok (.aload_n 0, 1) := dk_42 (dk_at dksX7_isSame_0 22 rfl rfl)
theorem dX7_isSame_23 : decode cX7_isSame 23 = .ok (.getfield 19, 3) := dk_180 0 19 (dk_at dksX7_isSame_1 0 rfl rfl)
theorem dX7_isSame_26 : decode cX7_isSame 26 = .ok (.aload_n 1, 1) := dk_43 (dk_at dksX7_isSame_1 3 rfl rfl)
theorem dX7_isSame_27 : decode cX7_isSame 27 = .ok (.getfield 19, 3) := dk_180 0 19 (dk_at dksX7_isSame_1 4 rfl rfl)
theorem dX7_isSame_30 : decode cX7_isSame 30 = .ok (.if_icmp .ne 7, 3) := dk_160 0 7 (dk_at dksX7_isSame_1 7 rfl rfl)
theorem dX7_isSame_33 : decode cX7_isSame 33 = .ok (.iconst 1, 1) := dk_4 (dk_at dksX7_isSame_1 10 rfl rfl)
theorem dX7_isSame_34 : decode cX7_isSame 34 = .ok (.goto 4, 3) := dk_167 0 4 (dk_at dksX7_isSame_1 11 rfl rfl)
theorem dX7_isSame_37 : decode cX7_isSame 37 = .ok (.iconst 0, 1) := dk_3 (dk_at dksX7_isSame_1 14 rfl rfl)
theorem dX7_isSame_38 : decode cX7_isSame 38 = .ok (.istore_n 2, 1) := dk_61 (dk_at dksX7_isSame_1 15 rfl rfl)
theorem dX7_isSame_39 : decode cX7_isSame 39 = .ok (.iload_n 2, 1) := dk_28 (dk_at dksX7_isSame_1 16 rfl rfl)
theorem dX7_isSame_40 : decode cX7_isSame 40 = .ok (.ifCond .eq 49, 3) := dk_153 0 49 (dk_at dksX7_isSame_1 17 rfl rfl)
theorem dX7_isSame_43 : decode cX7_isSame 43 = .ok (.aload_n 0, 1) := dk_42 (dk_at dksX7_isSame_1 20 rfl rfl)
theorem dX7_isSame_44 : decode cX7_isSame 44 = .ok (.getfield 22, 3) := dk_180 0 22 (dk_at dksX7_isSame_1 21 rfl rfl)
theorem dX7_isSame_47 : decode cX7_isSame 47 = .ok (.ifnull 17, 3) := dk_198 0 17 (dk_at dksX7_isSame_2 0 rfl rfl)
theorem dX7_isSame_50 : decode cX7_isSame 50 = .ok (.aload_n 0, 1) := dk_42 (dk_at dksX7_isSame_2 3 rfl rfl)
theorem dX7_isSame_51 : decode cX7_isSame 51 = .ok (.getfield 22, 3) := dk_180 0 22 (dk_at dksX7_isSame_2 4 rfl rfl)
theorem dX7_isSame_54 : decode cX7_isSame 54 = .ok (.aload_n 1, 1) := dk_43 (dk_at dksX7_isSame_2 7 rfl rfl)
theorem dX7_isSame_55 : decode cX7_isSame 55 = .ok (.getfield 22, 3) := dk_180 0 22 (dk_at dksX7_isSame_2 8 rfl rfl)
theorem dX7_isSame_58 : decode cX7_isSame 58 = .ok (.invokevirtual 32, 3) := dk_182 0 32 (dk_at dksX7_isSame_2 11 rfl rfl)
theorem dX7_isSame_61 : decode cX7_isSame 61 = .ok (.ifCond .eq 28, 3) := dk_153 0 28 (dk_at dksX7_isSame_2 14 rfl rfl)
theorem dX7_isSame_64 : decode cX7_isSame 64 = .ok (.aload_n 0, 1) := dk_42 (dk_at dksX7_isSame_2 17 rfl rfl)
theorem dX7_isSame_65 : decode cX7_isSame 65 = .ok (.getfield 26, 3) := dk_180 0 26 (dk_at dksX7_isSame_2 18 rfl rfl)
theorem dX7_isSame_68 : decode cX7_isSame 68 = .ok (.ifnull 17, 3) := dk_198 0 17 (dk_at dksX7_isSame_2 21 rfl rfl)
theorem dX7_isSame_71 : decode cX7_isSame 71 = .ok (.aload_n 0, 1) := dk_42 (dk_at dksX7_isSame_3 0 rfl rfl)
theorem dX7_isSame_72 : decode cX7_isSame 72 = .ok (.getfield 26, 3) := dk_180 0 26 (dk_at dksX7_isSame_3 1 rfl rfl)
theorem dX7_isSame_75 : decode cX7_isSame 75 = .ok (.aload_n 1, 1) := dk_43 (dk_at dksX7_isSame_3 4 rfl rfl)
theorem dX7_isSame_76 : decode cX7_isSame 76 = .ok (.getfield 26, 3) := dk_180 0 26 (dk_at dksX7_isSame_3 5 rfl rfl)
theorem dX7_isSame_79 : decode cX7_isSame 79 = .ok (.invokevirtual 32, 3) := dk_182 0 32 (dk_at dksX7_isSame_3 8 rfl rfl)
theorem dX7_isSame_82 : decode cX7_isSame 82 = .ok (.ifCond .eq 7, 3) := dk_153 0 7 (dk_at dksX7_isSame_3 11 rfl rfl)
theorem dX7_isSame_85 : decode cX7_isSame 85 = .ok (.iconst 1, 1) := dk_4 (dk_at dksX7_isSame_3 14 rfl rfl)
theorem dX7_isSame_86 : decode cX7_isSame 86 = .ok (.goto 4, 3) := dk_167 0 4 (dk_at dksX7_isSame_3 15 rfl rfl)
theorem dX7_isSame_89 : decode cX7_isSame 89 = .ok (.iconst 0, 1) := dk_3 (dk_at dksX7_isSame_3 18 rfl rfl)
theorem dX7_isSame_90 : decode cX7_isSame 90 = .ok (.ireturn, 1) := dk_172 (dk_at dksX7_isSame_3 19 rfl rfl)
abbrev cX7_init : ByteArray := prog_3_method_1_code
def yX7_init : MethodName := ⟨RX7, "<init>", "(LLogGrammar$Sort;IILLogGrammar$Formula;LLogGrammar$Formula;)V"⟩
def dkwX7_init_2 : List UInt8 := [180, 0, 29, 96, 25, 5, 199, 0, 7, 3, 167, 0, 8, 25, 5, 180, 0, 29, 96, 181, 0, 29, 177]
abbrev dktX7_init_2 : List UInt8 := dkwX7_init_2 ++ []
def dkwX7_init_1 : List UInt8 := [181, 0, 22, 42, 25, 5, 181, 0, 26, 42, 4, 25, 4, 199, 0, 7, 3, 167, 0, 8, 25, 4]
abbrev dktX7_init_1 : List UInt8 := dkwX7_init_1 ++ dktX7_init_2
def dkwX7_init_0 : List UInt8 := [42, 183, 0, 3, 42, 43, 181, 0, 9, 42, 28, 181, 0, 15, 42, 29, 181, 0, 19, 42, 25, 4]
abbrev dktX7_init_0 : List UInt8 := dkwX7_init_0 ++ dktX7_init_1
theorem dksX7_init_0 : cX7_init.data.toList.drop 0 = dktX7_init_0 := by decide +kernel
theorem dksX7_init_1 : cX7_init.data.toList.drop 22 = dktX7_init_1 := dk_seg dksX7_init_0 22 rfl rfl
theorem dksX7_init_2 : cX7_init.data.toList.drop 44 = dktX7_init_2 := dk_seg dksX7_init_1 22 rfl rfl
theorem dX7_init_0 : decode cX7_init 0 = .ok (.aload_n 0, 1) := dk_42 (dk_at dksX7_init_0 0 rfl rfl)
theorem dX7_init_1 : decode cX7_init 1 = .ok (.invokespecial 3, 3) := dk_183 0 3 (dk_at dksX7_init_0 1 rfl rfl)
theorem dX7_init_4 : decode cX7_init 4 = .ok (.aload_n 0, 1) := dk_42 (dk_at dksX7_init_0 4 rfl rfl)
theorem dX7_init_5 : decode cX7_init 5 = .ok (.aload_n 1, 1) := dk_43 (dk_at dksX7_init_0 5 rfl rfl)
theorem dX7_init_6 : decode cX7_init 6 = .ok (.putfield 9, 3) := dk_181 0 9 (dk_at dksX7_init_0 6 rfl rfl)
theorem dX7_init_9 : decode cX7_init 9 = .ok (.aload_n 0, 1) := dk_42 (dk_at dksX7_init_0 9 rfl rfl)
theorem dX7_init_10 : decode cX7_init 10 = .ok (.iload_n 2, 1) := dk_28 (dk_at dksX7_init_0 10 rfl rfl)
theorem dX7_init_11 : decode cX7_init 11 = .ok (.putfield 15, 3) := dk_181 0 15 (dk_at dksX7_init_0 11 rfl rfl)
theorem dX7_init_14 : decode cX7_init 14 = .ok (.aload_n 0, 1) := dk_42 (dk_at dksX7_init_0 14 rfl rfl)
theorem dX7_init_15 : decode cX7_init 15 = .ok (.iload_n 3, 1) := dk_29 (dk_at dksX7_init_0 15 rfl rfl)
theorem dX7_init_16 : decode cX7_init 16 = .ok (.putfield 19, 3) := dk_181 0 19 (dk_at dksX7_init_0 16 rfl rfl)
theorem dX7_init_19 : decode cX7_init 19 = .ok (.aload_n 0, 1) := dk_42 (dk_at dksX7_init_0 19 rfl rfl)
theorem dX7_init_20 : decode cX7_init 20 = .ok (.aload 4, 2) := dk_25 4 (dk_at dksX7_init_0 20 rfl rfl)
theorem dX7_init_22 : decode cX7_init 22 = .ok (.putfield 22, 3) := dk_181 0 22 (dk_at dksX7_init_1 0 rfl rfl)
theorem dX7_init_25 : decode cX7_init 25 = .ok (.aload_n 0, 1) := dk_42 (dk_at dksX7_init_1 3 rfl rfl)
theorem dX7_init_26 : decode cX7_init 26 = .ok (.aload 5, 2) := dk_25 5 (dk_at dksX7_init_1 4 rfl rfl)
theorem dX7_init_28 : decode cX7_init 28 = .ok (.putfield 26, 3) := dk_181 0 26 (dk_at dksX7_init_1 6 rfl rfl)
theorem dX7_init_31 : decode cX7_init 31 = .ok (.aload_n 0, 1) := dk_42 (dk_at dksX7_init_1 9 rfl rfl)
theorem dX7_init_32 : decode cX7_init 32 = .ok (.iconst 1, 1) := dk_4 (dk_at dksX7_init_1 10 rfl rfl)
theorem dX7_init_33 : decode cX7_init 33 = .ok (.aload 4, 2) := dk_25 4 (dk_at dksX7_init_1 11 rfl rfl)
theorem dX7_init_35 : decode cX7_init 35 = .ok (.ifnonnull 7, 3) := dk_199 0 7 (dk_at dksX7_init_1 13 rfl rfl)
theorem dX7_init_38 : decode cX7_init 38 = .ok (.iconst 0, 1) := dk_3 (dk_at dksX7_init_1 16 rfl rfl)
theorem dX7_init_39 : decode cX7_init 39 = .ok (.goto 8, 3) := dk_167 0 8 (dk_at dksX7_init_1 17 rfl rfl)
theorem dX7_init_42 : decode cX7_init 42 = .ok (.aload 4, 2) := dk_25 4 (dk_at dksX7_init_1 20 rfl rfl)
theorem dX7_init_44 : decode cX7_init 44 = .ok (.getfield 29, 3) := dk_180 0 29 (dk_at dksX7_init_2 0 rfl rfl)
theorem dX7_init_47 : decode cX7_init 47 = .ok (.iadd, 1) := dk_96 (dk_at dksX7_init_2 3 rfl rfl)
theorem dX7_init_48 : decode cX7_init 48 = .ok (.aload 5, 2) := dk_25 5 (dk_at dksX7_init_2 4 rfl rfl)
theorem dX7_init_50 : decode cX7_init 50 = .ok (.ifnonnull 7, 3) := dk_199 0 7 (dk_at dksX7_init_2 6 rfl rfl)
theorem dX7_init_53 : decode cX7_init 53 = .ok (.iconst 0, 1) := dk_3 (dk_at dksX7_init_2 9 rfl rfl)
theorem dX7_init_54 : decode cX7_init 54 = .ok (.goto 8, 3) := dk_167 0 8 (dk_at dksX7_init_2 10 rfl rfl)
theorem dX7_init_57 : decode cX7_init 57 = .ok (.aload 5, 2) := dk_25 5 (dk_at dksX7_init_2 13 rfl rfl)
theorem dX7_init_59 : decode cX7_init 59 = .ok (.getfield 29, 3) := dk_180 0 29 (dk_at dksX7_init_2 15 rfl rfl)
theorem dX7_init_62 : decode cX7_init 62 = .ok (.iadd, 1) := dk_96 (dk_at dksX7_init_2 18 rfl rfl)
theorem dX7_init_63 : decode cX7_init 63 = .ok (.putfield 29, 3) := dk_181 0 29 (dk_at dksX7_init_2 19 rfl rfl)
theorem dX7_init_66 : decode cX7_init 66 = .ok (.return_, 1) := dk_177 (dk_at dksX7_init_2 22 rfl rfl)
abbrev cX7_collect : ByteArray := prog_3_method_3_code
def yX7_collect : MethodName := ⟨RX7, "collect", "(Ljava/util/List;)V"⟩
def dkwX7_collect_2 : List UInt8 := [87, 177]
abbrev dktX7_collect_2 : List UInt8 := dkwX7_collect_2 ++ []
def dkwX7_collect_1 : List UInt8 := [180, 0, 26, 43, 182, 0, 36, 42, 43, 185, 0, 40, 1, 0, 181, 0, 45, 43, 42, 185, 0, 48, 2, 0]
abbrev dktX7_collect_1 : List UInt8 := dkwX7_collect_1 ++ dktX7_collect_2
def dkwX7_collect_0 : List UInt8 := [42, 180, 0, 22, 198, 0, 11, 42, 180, 0, 22, 43, 182, 0, 36, 42, 180, 0, 26, 198, 0, 11, 42]
abbrev dktX7_collect_0 : List UInt8 := dkwX7_collect_0 ++ dktX7_collect_1
theorem dksX7_collect_0 : cX7_collect.data.toList.drop 0 = dktX7_collect_0 := by decide +kernel
theorem dksX7_collect_1 : cX7_collect.data.toList.drop 23 = dktX7_collect_1 := dk_seg dksX7_collect_0 23 rfl rfl
theorem dksX7_collect_2 : cX7_collect.data.toList.drop 47 = dktX7_collect_2 := dk_seg dksX7_collect_1 24 rfl rfl
theorem dX7_collect_0 : decode cX7_collect 0 = .ok (.aload_n 0, 1) := dk_42 (dk_at dksX7_collect_0 0 rfl rfl)
theorem dX7_collect_1 : decode cX7_collect 1 = .ok (.getfield 22, 3) := dk_180 0 22 (dk_at dksX7_collect_0 1 rfl rfl)
theorem dX7_collect_4 : decode cX7_collect 4 = .ok (.ifnull 11, 3) := dk_198 0 11 (dk_at dksX7_collect_0 4 rfl rfl)
theorem dX7_collect_7 : decode cX7_collect 7 = .ok (.aload_n 0, 1) := dk_42 (dk_at dksX7_collect_0 7 rfl rfl)
theorem dX7_collect_8 : decode cX7_collect 8 = .ok (.getfield 22, 3) := dk_180 0 22 (dk_at dksX7_collect_0 8 rfl rfl)
theorem dX7_collect_11 : decode cX7_collect 11 = .ok (.aload_n 1, 1) := dk_43 (dk_at dksX7_collect_0 11 rfl rfl)
theorem dX7_collect_12 : decode cX7_collect 12 = .ok (.invokevirtual 36, 3) := dk_182 0 36 (dk_at dksX7_collect_0 12 rfl rfl)
theorem dX7_collect_15 : decode cX7_collect 15 = .ok (.aload_n 0, 1) := dk_42 (dk_at dksX7_collect_0 15 rfl rfl)
theorem dX7_collect_16 : decode cX7_collect 16 = .ok (.getfield 26, 3) := dk_180 0 26 (dk_at dksX7_collect_0 16 rfl rfl)
theorem dX7_collect_19 : decode cX7_collect 19 = .ok (.ifnull 11, 3) := dk_198 0 11 (dk_at dksX7_collect_0 19 rfl rfl)
theorem dX7_collect_22 : decode cX7_collect 22 = .ok (.aload_n 0, 1) := dk_42 (dk_at dksX7_collect_0 22 rfl rfl)
theorem dX7_collect_23 : decode cX7_collect 23 = .ok (.getfield 26, 3) := dk_180 0 26 (dk_at dksX7_collect_1 0 rfl rfl)
theorem dX7_collect_26 : decode cX7_collect 26 = .ok (.aload_n 1, 1) := dk_43 (dk_at dksX7_collect_1 3 rfl rfl)
theorem dX7_collect_27 : decode cX7_collect 27 = .ok (.invokevirtual 36, 3) := dk_182 0 36 (dk_at dksX7_collect_1 4 rfl rfl)
theorem dX7_collect_30 : decode cX7_collect 30 = .ok (.aload_n 0, 1) := dk_42 (dk_at dksX7_collect_1 7 rfl rfl)
theorem dX7_collect_31 : decode cX7_collect 31 = .ok (.aload_n 1, 1) := dk_43 (dk_at dksX7_collect_1 8 rfl rfl)
theorem dX7_collect_32 : decode cX7_collect 32 = .ok (.invokeinterface 40 1, 5) := by decide +kernel
theorem dX7_collect_37 : decode cX7_collect 37 = .ok (.putfield 45, 3) := dk_181 0 45 (dk_at dksX7_collect_1 14 rfl rfl)
theorem dX7_collect_40 : decode cX7_collect 40 = .ok (.aload_n 1, 1) := dk_43 (dk_at dksX7_collect_1 17 rfl rfl)
theorem dX7_collect_41 : decode cX7_collect 41 = .ok (.aload_n 0, 1) := dk_42 (dk_at dksX7_collect_1 18 rfl rfl)
theorem dX7_collect_42 : decode cX7_collect 42 = .ok (.invokeinterface 48 2, 5) := by decide +kernel
theorem dX7_collect_47 : decode cX7_collect 47 = .ok (.pop, 1) := dk_87 (dk_at dksX7_collect_2 0 rfl rfl)
theorem dX7_collect_48 : decode cX7_collect 48 = .ok (.return_, 1) := dk_177 (dk_at dksX7_collect_2 1 rfl rfl)
abbrev cX7_looks : ByteArray := prog_3_method_4_code
def yX7_looks : MethodName := ⟨RX7, "looks", "(Z)I"⟩
def dkwX7_looks_8 : List UInt8 := [160, 0, 7, 2, 167, 0, 19, 21, 4, 21, 8, 153, 0, 10, 42, 180, 0, 19, 167, 0, 4, 3, 96, 172]
abbrev dktX7_looks_8 : List UInt8 := dkwX7_looks_8 ++ []
def dkwX7_looks_7 : List UInt8 := [54, 8, 21, 5, 154, 0, 22, 21, 4, 2, 159, 0, 16, 21, 8, 153, 0, 15, 42, 180, 0, 19, 2]
abbrev dktX7_looks_7 : List UInt8 := dkwX7_looks_7 ++ dktX7_looks_8
def dkwX7_looks_6 : List UInt8 := [178, 0, 82, 166, 0, 7, 4, 167, 0, 4, 3, 54, 7, 27, 153, 0, 8, 21, 7, 167, 0, 5, 21, 6]
abbrev dktX7_looks_6 : List UInt8 := dkwX7_looks_6 ++ dktX7_looks_7
def dkwX7_looks_5 : List UInt8 := [166, 0, 7, 4, 167, 0, 4, 3, 54, 6, 42, 180, 0, 9, 178, 0, 79, 165, 0, 13, 42, 180, 0, 9]
abbrev dktX7_looks_5 : List UInt8 := dkwX7_looks_5 ++ dktX7_looks_6
def dkwX7_looks_4 : List UInt8 := [178, 0, 70, 165, 0, 23, 42, 180, 0, 9, 178, 0, 73, 165, 0, 13, 42, 180, 0, 9, 178, 0, 76]
abbrev dktX7_looks_4 : List UInt8 := dkwX7_looks_4 ++ dktX7_looks_5
def dkwX7_looks_3 : List UInt8 := [178, 0, 62, 167, 0, 6, 178, 0, 67, 166, 0, 7, 4, 167, 0, 4, 3, 54, 5, 42, 180, 0, 9]
abbrev dktX7_looks_3 : List UInt8 := dkwX7_looks_3 ++ dktX7_looks_4
def dkwX7_looks_2 : List UInt8 := [160, 0, 7, 2, 167, 0, 8, 28, 29, 184, 0, 56, 54, 4, 42, 180, 0, 9, 27, 153, 0, 9]
abbrev dktX7_looks_2 : List UInt8 := dkwX7_looks_2 ++ dktX7_looks_3
def dkwX7_looks_1 : List UInt8 := [199, 0, 7, 3, 167, 0, 11, 42, 180, 0, 26, 27, 182, 0, 52, 62, 28, 2, 159, 0, 8, 29, 2]
abbrev dktX7_looks_1 : List UInt8 := dkwX7_looks_1 ++ dktX7_looks_2
def dkwX7_looks_0 : List UInt8 := [42, 180, 0, 22, 199, 0, 7, 3, 167, 0, 11, 42, 180, 0, 22, 27, 182, 0, 52, 61, 42, 180, 0, 26]
abbrev dktX7_looks_0 : List UInt8 := dkwX7_looks_0 ++ dktX7_looks_1
theorem dksX7_looks_0 : cX7_looks.data.toList.drop 0 = dktX7_looks_0 := by decide +kernel
theorem dksX7_looks_1 : cX7_looks.data.toList.drop 24 = dktX7_looks_1 := dk_seg dksX7_looks_0 24 rfl rfl
theorem dksX7_looks_2 : cX7_looks.data.toList.drop 47 = dktX7_looks_2 := dk_seg dksX7_looks_1 23 rfl rfl
theorem dksX7_looks_3 : cX7_looks.data.toList.drop 69 = dktX7_looks_3 := dk_seg dksX7_looks_2 22 rfl rfl
theorem dksX7_looks_4 : cX7_looks.data.toList.drop 92 = dktX7_looks_4 := dk_seg dksX7_looks_3 23 rfl rfl
theorem dksX7_looks_5 : cX7_looks.data.toList.drop 115 = dktX7_looks_5 := dk_seg dksX7_looks_4 23 rfl rfl
theorem dksX7_looks_6 : cX7_looks.data.toList.drop 139 = dktX7_looks_6 := dk_seg dksX7_looks_5 24 rfl rfl
theorem dksX7_looks_7 : cX7_looks.data.toList.drop 163 = dktX7_looks_7 := dk_seg dksX7_looks_6 24 rfl rfl
theorem dksX7_looks_8 : cX7_looks.data.toList.drop 186 = dktX7_looks_8 := dk_seg dksX7_looks_7 23 rfl rfl
theorem dX7_looks_0 : decode cX7_looks 0 = .ok (.aload_n 0, 1) := dk_42 (dk_at dksX7_looks_0 0 rfl rfl)
theorem dX7_looks_1 : decode cX7_looks 1 = .ok (.getfield 22, 3) := dk_180 0 22 (dk_at dksX7_looks_0 1 rfl rfl)
theorem dX7_looks_4 : decode cX7_looks 4 = .ok (.ifnonnull 7, 3) := dk_199 0 7 (dk_at dksX7_looks_0 4 rfl rfl)
theorem dX7_looks_7 : decode cX7_looks 7 = .ok (.iconst 0, 1) := dk_3 (dk_at dksX7_looks_0 7 rfl rfl)
theorem dX7_looks_8 : decode cX7_looks 8 = .ok (.goto 11, 3) := dk_167 0 11 (dk_at dksX7_looks_0 8 rfl rfl)
theorem dX7_looks_11 : decode cX7_looks 11 = .ok (.aload_n 0, 1) := dk_42 (dk_at dksX7_looks_0 11 rfl rfl)
theorem dX7_looks_12 : decode cX7_looks 12 = .ok (.getfield 22, 3) := dk_180 0 22 (dk_at dksX7_looks_0 12 rfl rfl)
theorem dX7_looks_15 : decode cX7_looks 15 = .ok (.iload_n 1, 1) := dk_27 (dk_at dksX7_looks_0 15 rfl rfl)
theorem dX7_looks_16 : decode cX7_looks 16 = .ok (.invokevirtual 52, 3) := dk_182 0 52 (dk_at dksX7_looks_0 16 rfl rfl)
theorem dX7_looks_19 : decode cX7_looks 19 = .ok (.istore_n 2, 1) := dk_61 (dk_at dksX7_looks_0 19 rfl rfl)
theorem dX7_looks_20 : decode cX7_looks 20 = .ok (.aload_n 0, 1) := dk_42 (dk_at dksX7_looks_0 20 rfl rfl)
theorem dX7_looks_21 : decode cX7_looks 21 = .ok (.getfield 26, 3) := dk_180 0 26 (dk_at dksX7_looks_0 21 rfl rfl)
theorem dX7_looks_24 : decode cX7_looks 24 = .ok (.ifnonnull 7, 3) := dk_199 0 7 (dk_at dksX7_looks_1 0 rfl rfl)
theorem dX7_looks_27 : decode cX7_looks 27 = .ok (.iconst 0, 1) := dk_3 (dk_at dksX7_looks_1 3 rfl rfl)
theorem dX7_looks_28 : decode cX7_looks 28 = .ok (.goto 11, 3) := dk_167 0 11 (dk_at dksX7_looks_1 4 rfl rfl)
theorem dX7_looks_31 : decode cX7_looks 31 = .ok (.aload_n 0, 1) := dk_42 (dk_at dksX7_looks_1 7 rfl rfl)
theorem dX7_looks_32 : decode cX7_looks 32 = .ok (.getfield 26, 3) := dk_180 0 26 (dk_at dksX7_looks_1 8 rfl rfl)
theorem dX7_looks_35 : decode cX7_looks 35 = .ok (.iload_n 1, 1) := dk_27 (dk_at dksX7_looks_1 11 rfl rfl)
theorem dX7_looks_36 : decode cX7_looks 36 = .ok (.invokevirtual 52, 3) := dk_182 0 52 (dk_at dksX7_looks_1 12 rfl rfl)
theorem dX7_looks_39 : decode cX7_looks 39 = .ok (.istore_n 3, 1) := dk_62 (dk_at dksX7_looks_1 15 rfl rfl)
theorem dX7_looks_40 : decode cX7_looks 40 = .ok (.iload_n 2, 1) := dk_28 (dk_at dksX7_looks_1 16 rfl rfl)
theorem dX7_looks_41 : decode cX7_looks 41 = .ok (.iconst (-1), 1) := dk_2 (dk_at dksX7_looks_1 17 rfl rfl)
theorem dX7_looks_42 : decode cX7_looks 42 = .ok (.if_icmp .eq 8, 3) := dk_159 0 8 (dk_at dksX7_looks_1 18 rfl rfl)
theorem dX7_looks_45 : decode cX7_looks 45 = .ok (.iload_n 3, 1) := dk_29 (dk_at dksX7_looks_1 21 rfl rfl)
theorem dX7_looks_46 : decode cX7_looks 46 = .ok (.iconst (-1), 1) := dk_2 (dk_at dksX7_looks_1 22 rfl rfl)
theorem dX7_looks_47 : decode cX7_looks 47 = .ok (.if_icmp .ne 7, 3) := dk_160 0 7 (dk_at dksX7_looks_2 0 rfl rfl)
theorem dX7_looks_50 : decode cX7_looks 50 = .ok (.iconst (-1), 1) := dk_2 (dk_at dksX7_looks_2 3 rfl rfl)
theorem dX7_looks_51 : decode cX7_looks 51 = .ok (.goto 8, 3) := dk_167 0 8 (dk_at dksX7_looks_2 4 rfl rfl)
theorem dX7_looks_54 : decode cX7_looks 54 = .ok (.iload_n 2, 1) := dk_28 (dk_at dksX7_looks_2 7 rfl rfl)
theorem dX7_looks_55 : decode cX7_looks 55 = .ok (.iload_n 3, 1) := dk_29 (dk_at dksX7_looks_2 8 rfl rfl)
theorem dX7_looks_56 : decode cX7_looks 56 = .ok (.invokestatic 56, 3) := dk_184 0 56 (dk_at dksX7_looks_2 9 rfl rfl)
theorem dX7_looks_59 : decode cX7_looks 59 = .ok (.istore 4, 2) := dk_54 4 (dk_at dksX7_looks_2 12 rfl rfl)
theorem dX7_looks_61 : decode cX7_looks 61 = .ok (.aload_n 0, 1) := dk_42 (dk_at dksX7_looks_2 14 rfl rfl)
theorem dX7_looks_62 : decode cX7_looks 62 = .ok (.getfield 9, 3) := dk_180 0 9 (dk_at dksX7_looks_2 15 rfl rfl)
theorem dX7_looks_65 : decode cX7_looks 65 = .ok (.iload_n 1, 1) := dk_27 (dk_at dksX7_looks_2 18 rfl rfl)
theorem dX7_looks_66 : decode cX7_looks 66 = .ok (.ifCond .eq 9, 3) := dk_153 0 9 (dk_at dksX7_looks_2 19 rfl rfl)
theorem dX7_looks_69 : decode cX7_looks 69 = .ok (.getstatic 62, 3) := dk_178 0 62 (dk_at dksX7_looks_3 0 rfl rfl)
theorem dX7_looks_72 : decode cX7_looks 72 = .ok (.goto 6, 3) := dk_167 0 6 (dk_at dksX7_looks_3 3 rfl rfl)
theorem dX7_looks_75 : decode cX7_looks 75 = .ok (.getstatic 67, 3) := dk_178 0 67 (dk_at dksX7_looks_3 6 rfl rfl)
theorem dX7_looks_78 : decode cX7_looks 78 = .ok (.if_acmp .ne 7, 3) := dk_166 0 7 (dk_at dksX7_looks_3 9 rfl rfl)
theorem dX7_looks_81 : decode cX7_looks 81 = .ok (.iconst 1, 1) := dk_4 (dk_at dksX7_looks_3 12 rfl rfl)
theorem dX7_looks_82 : decode cX7_looks 82 = .ok (.goto 4, 3) := dk_167 0 4 (dk_at dksX7_looks_3 13 rfl rfl)
theorem dX7_looks_85 : decode cX7_looks 85 = .ok (.iconst 0, 1) := dk_3 (dk_at dksX7_looks_3 16 rfl rfl)
theorem dX7_looks_86 : decode cX7_looks 86 = .ok (.istore 5, 2) := dk_54 5 (dk_at dksX7_looks_3 17 rfl rfl)
theorem dX7_looks_88 : decode cX7_looks 88 = .ok (.aload_n 0, 1) := dk_42 (dk_at dksX7_looks_3 19 rfl rfl)
theorem dX7_looks_89 : decode cX7_looks 89 = .ok (.getfield 9, 3) := dk_180 0 9 (dk_at dksX7_looks_3 20 rfl rfl)
theorem dX7_looks_92 : decode cX7_looks 92 = .ok (.getstatic 70, 3) := dk_178 0 70 (dk_at dksX7_looks_4 0 rfl rfl)
theorem dX7_looks_95 : decode cX7_looks 95 = .ok (.if_acmp .eq 23, 3) := dk_165 0 23 (dk_at dksX7_looks_4 3 rfl rfl)
theorem dX7_looks_98 : decode cX7_looks 98 = .ok (.aload_n 0, 1) := dk_42 (dk_at dksX7_looks_4 6 rfl rfl)
theorem dX7_looks_99 : decode cX7_looks 99 = .ok (.getfield 9, 3) := dk_180 0 9 (dk_at dksX7_looks_4 7 rfl rfl)
theorem dX7_looks_102 : decode cX7_looks 102 = .ok (.getstatic 73, 3) := dk_178 0 73 (dk_at dksX7_looks_4 10 rfl rfl)
theorem dX7_looks_105 : decode cX7_looks 105 = .ok (.if_acmp .eq 13, 3) := dk_165 0 13 (dk_at dksX7_looks_4 13 rfl rfl)
theorem dX7_looks_108 : decode cX7_looks 108 = .ok (.aload_n 0, 1) := dk_42 (dk_at dksX7_looks_4 16 rfl rfl)
theorem dX7_looks_109 : decode cX7_looks 109 = .ok (.getfield 9, 3) := dk_180 0 9 (dk_at dksX7_looks_4 17 rfl rfl)
theorem dX7_looks_112 : decode cX7_looks 112 = .ok (.getstatic 76, 3) := dk_178 0 76 (dk_at dksX7_looks_4 20 rfl rfl)
theorem dX7_looks_115 : decode cX7_looks 115 = .ok (.if_acmp .ne 7, 3) := dk_166 0 7 (dk_at dksX7_looks_5 0 rfl rfl)
theorem dX7_looks_118 : decode cX7_looks 118 = .ok (.iconst 1, 1) := dk_4 (dk_at dksX7_looks_5 3 rfl rfl)
theorem dX7_looks_119 : decode cX7_looks 119 = .ok (.goto 4, 3) := dk_167 0 4 (dk_at dksX7_looks_5 4 rfl rfl)
theorem dX7_looks_122 : decode cX7_looks 122 = .ok (.iconst 0, 1) := dk_3 (dk_at dksX7_looks_5 7 rfl rfl)
theorem dX7_looks_123 : decode cX7_looks 123 = .ok (.istore 6, 2) := dk_54 6 (dk_at dksX7_looks_5 8 rfl rfl)
theorem dX7_looks_125 : decode cX7_looks 125 = .ok (.aload_n 0, 1) := dk_42 (dk_at dksX7_looks_5 10 rfl rfl)
theorem dX7_looks_126 : decode cX7_looks 126 = .ok (.getfield 9, 3) := dk_180 0 9 (dk_at dksX7_looks_5 11 rfl rfl)
theorem dX7_looks_129 : decode cX7_looks 129 = .ok (.getstatic 79, 3) := dk_178 0 79 (dk_at dksX7_looks_5 14 rfl rfl)
theorem dX7_looks_132 : decode cX7_looks 132 = .ok (.if_acmp .eq 13, 3) := dk_165 0 13 (dk_at dksX7_looks_5 17 rfl rfl)
theorem dX7_looks_135 : decode cX7_looks 135 = .ok (.aload_n 0, 1) := dk_42 (dk_at dksX7_looks_5 20 rfl rfl)
theorem dX7_looks_136 : decode cX7_looks 136 = .ok (.getfield 9, 3) := dk_180 0 9 (dk_at dksX7_looks_5 21 rfl rfl)
theorem dX7_looks_139 : decode cX7_looks 139 = .ok (.getstatic 82, 3) := dk_178 0 82 (dk_at dksX7_looks_6 0 rfl rfl)
theorem dX7_looks_142 : decode cX7_looks 142 = .ok (.if_acmp .ne 7, 3) := dk_166 0 7 (dk_at dksX7_looks_6 3 rfl rfl)
theorem dX7_looks_145 : decode cX7_looks 145 = .ok (.iconst 1, 1) := dk_4 (dk_at dksX7_looks_6 6 rfl rfl)
theorem dX7_looks_146 : decode cX7_looks 146 = .ok (.goto 4, 3) := dk_167 0 4 (dk_at dksX7_looks_6 7 rfl rfl)
theorem dX7_looks_149 : decode cX7_looks 149 = .ok (.iconst 0, 1) := dk_3 (dk_at dksX7_looks_6 10 rfl rfl)
theorem dX7_looks_150 : decode cX7_looks 150 = .ok (.istore 7, 2) := dk_54 7 (dk_at dksX7_looks_6 11 rfl rfl)
theorem dX7_looks_152 : decode cX7_looks 152 = .ok (.iload_n 1, 1) := dk_27 (dk_at dksX7_looks_6 13 rfl rfl)
theorem dX7_looks_153 : decode cX7_looks 153 = .ok (.ifCond .eq 8, 3) := dk_153 0 8 (dk_at dksX7_looks_6 14 rfl rfl)
theorem dX7_looks_156 : decode cX7_looks 156 = .ok (.iload 7, 2) := dk_21 7 (dk_at dksX7_looks_6 17 rfl rfl)
theorem dX7_looks_158 : decode cX7_looks 158 = .ok (.goto 5, 3) := dk_167 0 5 (dk_at dksX7_looks_6 19 rfl rfl)
theorem dX7_looks_161 : decode cX7_looks 161 = .ok (.iload 6, 2) := dk_21 6 (dk_at dksX7_looks_6 22 rfl rfl)
theorem dX7_looks_163 : decode cX7_looks 163 = .ok (.istore 8, 2) := dk_54 8 (dk_at dksX7_looks_7 0 rfl rfl)
theorem dX7_looks_165 : decode cX7_looks 165 = .ok (.iload 5, 2) := dk_21 5 (dk_at dksX7_looks_7 2 rfl rfl)
theorem dX7_looks_167 : decode cX7_looks 167 = .ok (.ifCond .ne 22, 3) := dk_154 0 22 (dk_at dksX7_looks_7 4 rfl rfl)
theorem dX7_looks_170 : decode cX7_looks 170 = .ok (.iload 4, 2) := dk_21 4 (dk_at dksX7_looks_7 7 rfl rfl)
theorem dX7_looks_172 : decode cX7_looks 172 = .ok (.iconst (-1), 1) := dk_2 (dk_at dksX7_looks_7 9 rfl rfl)
theorem dX7_looks_173 : decode cX7_looks 173 = .ok (.if_icmp .eq 16, 3) := dk_159 0 16 (dk_at dksX7_looks_7 10 rfl rfl)
theorem dX7_looks_176 : decode cX7_looks 176 = .ok (.iload 8, 2) := dk_21 8 (dk_at dksX7_looks_7 13 rfl rfl)
theorem dX7_looks_178 : decode cX7_looks 178 = .ok (.ifCond .eq 15, 3) := dk_153 0 15 (dk_at dksX7_looks_7 15 rfl rfl)
theorem dX7_looks_181 : decode cX7_looks 181 = .ok (.aload_n 0, 1) := dk_42 (dk_at dksX7_looks_7 18 rfl rfl)
theorem dX7_looks_182 : decode cX7_looks 182 = .ok (.getfield 19, 3) := dk_180 0 19 (dk_at dksX7_looks_7 19 rfl rfl)
theorem dX7_looks_185 : decode cX7_looks 185 = .ok (.iconst (-1), 1) := dk_2 (dk_at dksX7_looks_7 22 rfl rfl)
theorem dX7_looks_186 : decode cX7_looks 186 = .ok (.if_icmp .ne 7, 3) := dk_160 0 7 (dk_at dksX7_looks_8 0 rfl rfl)
theorem dX7_looks_189 : decode cX7_looks 189 = .ok (.iconst (-1), 1) := dk_2 (dk_at dksX7_looks_8 3 rfl rfl)
theorem dX7_looks_190 : decode cX7_looks 190 = .ok (.goto 19, 3) := dk_167 0 19 (dk_at dksX7_looks_8 4 rfl rfl)
theorem dX7_looks_193 : decode cX7_looks 193 = .ok (.iload 4, 2) := dk_21 4 (dk_at dksX7_looks_8 7 rfl rfl)
theorem dX7_looks_195 : decode cX7_looks 195 = .ok (.iload 8, 2) := dk_21 8 (dk_at dksX7_looks_8 9 rfl rfl)
theorem dX7_looks_197 : decode cX7_looks 197 = .ok (.ifCond .eq 10, 3) := dk_153 0 10 (dk_at dksX7_looks_8 11 rfl rfl)
theorem dX7_looks_200 : decode cX7_looks 200 = .ok (.aload_n 0, 1) := dk_42 (dk_at dksX7_looks_8 14 rfl rfl)
theorem dX7_looks_201 : decode cX7_looks 201 = .ok (.getfield 19, 3) := dk_180 0 19 (dk_at dksX7_looks_8 15 rfl rfl)
theorem dX7_looks_204 : decode cX7_looks 204 = .ok (.goto 4, 3) := dk_167 0 4 (dk_at dksX7_looks_8 18 rfl rfl)
theorem dX7_looks_207 : decode cX7_looks 207 = .ok (.iconst 0, 1) := dk_3 (dk_at dksX7_looks_8 21 rfl rfl)
theorem dX7_looks_208 : decode cX7_looks 208 = .ok (.iadd, 1) := dk_96 (dk_at dksX7_looks_8 22 rfl rfl)
theorem dX7_looks_209 : decode cX7_looks 209 = .ok (.ireturn, 1) := dk_172 (dk_at dksX7_looks_8 23 rfl rfl)
theorem q106 : (Jvm.Cond.initialized "LogGrammar$Formula") ∈ lw_all := lw_g (lw_at lw_m1 34 rfl) rfl
theorem q210 : (Jvm.Cond.selects "LogGrammar$Formula" ({ cls := "java/lang/Object", name := "getClass", desc := "()Ljava/lang/Class;" } : Jvm.MethodName) ({ cls := "java/lang/Object", name := "getClass", desc := "()Ljava/lang/Class;" } : Jvm.MethodName)) ∈ lw_all := lw_g (lw_at lw_m1 138 rfl) rfl
theorem q397 : (Jvm.Cond.instanceMethod ({ cls := "LogGrammar$Formula", name := "isSame", desc := "(LLogGrammar$Formula;)Z" } : Jvm.MethodName)) ∈ lw_all := lw_g (lw_at lw_m2 85 rfl) rfl
theorem q398 : (Jvm.Cond.selects "LogGrammar$Formula" ({ cls := "LogGrammar$Formula", name := "isSame", desc := "(LLogGrammar$Formula;)Z" } : Jvm.MethodName) ({ cls := "LogGrammar$Formula", name := "isSame", desc := "(LLogGrammar$Formula;)Z" } : Jvm.MethodName)) ∈ lw_all := lw_g (lw_at lw_m2 86 rfl) rfl
theorem q399 : (Jvm.Cond.code ({ cls := "LogGrammar$Formula", name := "isSame", desc := "(LLogGrammar$Formula;)Z" } : Jvm.MethodName) prog_3_method_2_code (3 : Nat) (Option.some Jvm.ClassFile.FieldType.boolean)) ∈ lw_all := lw_g (lw_at lw_m2 87 rfl) rfl
theorem q400 : (Jvm.Cond.methodLink "LogGrammar$Formula" (32 : Nat) ({ cls := "LogGrammar$Formula", name := "isSame", desc := "(LLogGrammar$Formula;)Z" } : Jvm.MethodName)) ∈ lw_all := lw_g (lw_at lw_m2 88 rfl) rfl
theorem q547 : (Jvm.Cond.selects "LogGrammar$Formula" ({ cls := "java/lang/Object", name := "equals", desc := "(Ljava/lang/Object;)Z" } : Jvm.MethodName) ({ cls := "java/lang/Object", name := "equals", desc := "(Ljava/lang/Object;)Z" } : Jvm.MethodName)) ∈ lw_all := lw_g (lw_at lw_m2 235 rfl) rfl
theorem q1241 : (Jvm.Cond.instantiable "LogGrammar$Formula" (7 : Nat)) ∈ lw_all := lw_g (lw_at lw_m5 209 rfl) rfl
theorem q1245 : (Jvm.Cond.instanceMethod ({ cls := "LogGrammar$Formula", name := "<init>", desc := "(LLogGrammar$Sort;IILLogGrammar$Formula;LLogGrammar$Formula;)V" } : Jvm.MethodName)) ∈ lw_all := lw_g (lw_at lw_m5 213 rfl) rfl
theorem q1246 : (Jvm.Cond.code ({ cls := "LogGrammar$Formula", name := "<init>", desc := "(LLogGrammar$Sort;IILLogGrammar$Formula;LLogGrammar$Formula;)V" } : Jvm.MethodName) prog_3_method_1_code (6 : Nat) (Option.none : Option Jvm.ClassFile.FieldType)) ∈ lw_all := lw_g (lw_at lw_m5 214 rfl) rfl
theorem q1247 : (Jvm.Cond.methodLink "LogGrammar$Formula" (3 : Nat) ({ cls := "java/lang/Object", name := "<init>", desc := "()V" } : Jvm.MethodName)) ∈ lw_all := lw_g (lw_at lw_m5 215 rfl) rfl
theorem q1248 : (Jvm.Cond.fieldLink "LogGrammar$Formula" (9 : Nat) "LogGrammar$Formula" "sort" "LLogGrammar$Sort;") ∈ lw_all := lw_g (lw_at lw_m5 216 rfl) rfl
theorem q1250 : (Jvm.Cond.fieldLink "LogGrammar$Formula" (15 : Nat) "LogGrammar$Formula" "one" "I") ∈ lw_all := lw_g (lw_at lw_m5 218 rfl) rfl
theorem q1252 : (Jvm.Cond.fieldLink "LogGrammar$Formula" (19 : Nat) "LogGrammar$Formula" "two" "I") ∈ lw_all := lw_g (lw_at lw_m5 220 rfl) rfl
theorem q1254 : (Jvm.Cond.fieldLink "LogGrammar$Formula" (22 : Nat) "LogGrammar$Formula" "first" "LLogGrammar$Formula;") ∈ lw_all := lw_g (lw_at lw_m5 222 rfl) rfl
theorem q1256 : (Jvm.Cond.fieldLink "LogGrammar$Formula" (26 : Nat) "LogGrammar$Formula" "second" "LLogGrammar$Formula;") ∈ lw_all := lw_g (lw_at lw_m5 224 rfl) rfl
theorem q1258 : (Jvm.Cond.fieldLink "LogGrammar$Formula" (29 : Nat) "LogGrammar$Formula" "size" "I") ∈ lw_all := lw_g (lw_at lw_m5 226 rfl) rfl
theorem q1260 : (Jvm.Cond.fieldLink "LogGrammar$Formula" (45 : Nat) "LogGrammar$Formula" "at" "I") ∈ lw_all := lw_g (lw_at lw_m5 228 rfl) rfl
theorem q1263 : (Jvm.Cond.laysFinal "LogGrammar$Formula" "LogGrammar$Formula" "sort" "LLogGrammar$Sort;") ∈ lw_all := lw_g (lw_at lw_m5 231 rfl) rfl
theorem q1264 : (Jvm.Cond.soleField "LogGrammar$Formula" "sort") ∈ lw_all := lw_g (lw_at lw_m5 232 rfl) rfl
theorem q1265 : (Jvm.Cond.laysFinal "LogGrammar$Formula" "LogGrammar$Formula" "one" "I") ∈ lw_all := lw_g (lw_at lw_m5 233 rfl) rfl
theorem q1266 : (Jvm.Cond.soleField "LogGrammar$Formula" "one") ∈ lw_all := lw_g (lw_at lw_m5 234 rfl) rfl
theorem q1267 : (Jvm.Cond.laysFinal "LogGrammar$Formula" "LogGrammar$Formula" "two" "I") ∈ lw_all := lw_g (lw_at lw_m5 235 rfl) rfl
theorem q1268 : (Jvm.Cond.soleField "LogGrammar$Formula" "two") ∈ lw_all := lw_g (lw_at lw_m5 236 rfl) rfl
theorem q1269 : (Jvm.Cond.laysFinal "LogGrammar$Formula" "LogGrammar$Formula" "first" "LLogGrammar$Formula;") ∈ lw_all := lw_g (lw_at lw_m5 237 rfl) rfl
theorem q1270 : (Jvm.Cond.soleField "LogGrammar$Formula" "first") ∈ lw_all := lw_g (lw_at lw_m5 238 rfl) rfl
theorem q1271 : (Jvm.Cond.laysFinal "LogGrammar$Formula" "LogGrammar$Formula" "second" "LLogGrammar$Formula;") ∈ lw_all := lw_g (lw_at lw_m5 239 rfl) rfl
theorem q1272 : (Jvm.Cond.soleField "LogGrammar$Formula" "second") ∈ lw_all := lw_g (lw_at lw_m6 0 rfl) rfl
theorem q1273 : (Jvm.Cond.laysFinal "LogGrammar$Formula" "LogGrammar$Formula" "size" "I") ∈ lw_all := lw_g (lw_at lw_m6 1 rfl) rfl
theorem q1274 : (Jvm.Cond.soleField "LogGrammar$Formula" "size") ∈ lw_all := lw_g (lw_at lw_m6 2 rfl) rfl
theorem q1275 : (Jvm.Cond.lays "LogGrammar$Formula" "LogGrammar$Formula" "at" "I") ∈ lw_all := lw_g (lw_at lw_m6 3 rfl) rfl
theorem q1276 : (Jvm.Cond.soleField "LogGrammar$Formula" "at") ∈ lw_all := lw_g (lw_at lw_m6 4 rfl) rfl
theorem q1277 : (Jvm.Cond.superclass "LogGrammar$Formula" "java/lang/Object") ∈ lw_all := lw_g (lw_at lw_m6 5 rfl) rfl
theorem q1402 : (Jvm.Cond.instanceMethod ({ cls := "LogGrammar$Formula", name := "collect", desc := "(Ljava/util/List;)V" } : Jvm.MethodName)) ∈ lw_all := lw_g (lw_at lw_m6 130 rfl) rfl
theorem q1403 : (Jvm.Cond.selects "LogGrammar$Formula" ({ cls := "LogGrammar$Formula", name := "collect", desc := "(Ljava/util/List;)V" } : Jvm.MethodName) ({ cls := "LogGrammar$Formula", name := "collect", desc := "(Ljava/util/List;)V" } : Jvm.MethodName)) ∈ lw_all := lw_g (lw_at lw_m6 131 rfl) rfl
theorem q1404 : (Jvm.Cond.code ({ cls := "LogGrammar$Formula", name := "collect", desc := "(Ljava/util/List;)V" } : Jvm.MethodName) prog_3_method_3_code (2 : Nat) (Option.none : Option Jvm.ClassFile.FieldType)) ∈ lw_all := lw_g (lw_at lw_m6 132 rfl) rfl
theorem q1405 : (Jvm.Cond.methodLink "LogGrammar$Formula" (36 : Nat) ({ cls := "LogGrammar$Formula", name := "collect", desc := "(Ljava/util/List;)V" } : Jvm.MethodName)) ∈ lw_all := lw_g (lw_at lw_m6 133 rfl) rfl
theorem q1406 : (Jvm.Cond.interfaceEntry "LogGrammar$Formula" (40 : Nat)) ∈ lw_tbl := lw_at lw_m6 134 rfl
theorem q1407 : (Jvm.Cond.methodLink "LogGrammar$Formula" (40 : Nat) ({ cls := "java/util/List", name := "size", desc := "()I" } : Jvm.MethodName)) ∈ lw_all := lw_g (lw_at lw_m6 135 rfl) rfl
theorem q1408 : (Jvm.Cond.interfaceEntry "LogGrammar$Formula" (48 : Nat)) ∈ lw_tbl := lw_at lw_m6 136 rfl
theorem q1409 : (Jvm.Cond.methodLink "LogGrammar$Formula" (48 : Nat) ({ cls := "java/util/List", name := "add", desc := "(Ljava/lang/Object;)Z" } : Jvm.MethodName)) ∈ lw_all := lw_g (lw_at lw_m6 137 rfl) rfl
theorem q1563 : (Jvm.Cond.instanceMethod ({ cls := "LogGrammar$Formula", name := "looks", desc := "(Z)I" } : Jvm.MethodName)) ∈ lw_all := lw_g (lw_at lw_m7 51 rfl) rfl
theorem q1564 : (Jvm.Cond.selects "LogGrammar$Formula" ({ cls := "LogGrammar$Formula", name := "looks", desc := "(Z)I" } : Jvm.MethodName) ({ cls := "LogGrammar$Formula", name := "looks", desc := "(Z)I" } : Jvm.MethodName)) ∈ lw_all := lw_g (lw_at lw_m7 52 rfl) rfl
theorem q1565 : (Jvm.Cond.code ({ cls := "LogGrammar$Formula", name := "looks", desc := "(Z)I" } : Jvm.MethodName) prog_3_method_4_code (9 : Nat) (Option.some Jvm.ClassFile.FieldType.int)) ∈ lw_all := lw_g (lw_at lw_m7 53 rfl) rfl
theorem q1566 : (Jvm.Cond.methodLink "LogGrammar$Formula" (52 : Nat) ({ cls := "LogGrammar$Formula", name := "looks", desc := "(Z)I" } : Jvm.MethodName)) ∈ lw_all := lw_g (lw_at lw_m7 54 rfl) rfl
theorem q1567 : (Jvm.Cond.methodLink "LogGrammar$Formula" (56 : Nat) ({ cls := "java/lang/Math", name := "max", desc := "(II)I" } : Jvm.MethodName)) ∈ lw_all := lw_g (lw_at lw_m7 55 rfl) rfl
theorem q1568 : (Jvm.Cond.fieldLink "LogGrammar$Formula" (62 : Nat) "LogGrammar$Sort" "NEXT" "LLogGrammar$Sort;") ∈ lw_all := lw_g (lw_at lw_m7 56 rfl) rfl
theorem q1569 : (Jvm.Cond.fieldLink "LogGrammar$Formula" (67 : Nat) "LogGrammar$Sort" "BEFORE" "LLogGrammar$Sort;") ∈ lw_all := lw_g (lw_at lw_m7 57 rfl) rfl
theorem q1570 : (Jvm.Cond.fieldLink "LogGrammar$Formula" (70 : Nat) "LogGrammar$Sort" "SINCE" "LLogGrammar$Sort;") ∈ lw_all := lw_g (lw_at lw_m7 58 rfl) rfl
theorem q1571 : (Jvm.Cond.fieldLink "LogGrammar$Formula" (73 : Nat) "LogGrammar$Sort" "ONCE" "LLogGrammar$Sort;") ∈ lw_all := lw_g (lw_at lw_m7 59 rfl) rfl
theorem q1572 : (Jvm.Cond.fieldLink "LogGrammar$Formula" (76 : Nat) "LogGrammar$Sort" "MANY" "LLogGrammar$Sort;") ∈ lw_all := lw_g (lw_at lw_m7 60 rfl) rfl
theorem q1573 : (Jvm.Cond.fieldLink "LogGrammar$Formula" (79 : Nat) "LogGrammar$Sort" "UNTIL" "LLogGrammar$Sort;") ∈ lw_all := lw_g (lw_at lw_m7 61 rfl) rfl
theorem q1574 : (Jvm.Cond.fieldLink "LogGrammar$Formula" (82 : Nat) "LogGrammar$Sort" "SOON" "LLogGrammar$Sort;") ∈ lw_all := lw_g (lw_at lw_m7 62 rfl) rfl
theorem q2171 : (Jvm.Cond.castable "LogGrammar$Formula" "java/lang/Object") ∈ lw_tbl := lw_at lw_m9 179 rfl
theorem in_X7 : ∀ w ∈ wsX70, w ∈ lw_all := lw_in wsX70 [1263, 1265, 1267, 1269, 1271, 1273, 1275] (by decide +kernel) (by decide +kernel)
/-! LogGrammar$Monitor -/
set_option maxRecDepth 100000
def RX8 : String := "LogGrammar$Monitor"
def TX8 : u_T := fun k => match k with
  | 0 => ("LogGrammar$Monitor", "formula", "LLogGrammar$Formula;", true)
  | 1 => ("LogGrammar$Monitor", "parts", "Ljava/util/List;", true)
  | 2 => ("LogGrammar$Monitor", "table", "LLogGrammar$Row;", true)
  | 3 => ("LogGrammar$Monitor", "isSliced", "Z", true)
  | 4 => ("LogGrammar$Monitor", "isGuard", "Z", true)
  | 5 => ("LogGrammar$Monitor", "known", "Ljava/util/List;", true)
  | 6 => ("LogGrammar$Monitor", "takenBack", "I", false)
  | _ => ("LogGrammar$Monitor", "this$0", "LLogGrammar;", true)
def tyX8 : Nat → FieldType := fun k => match k with
  | 0 => .object "LogGrammar$Formula"
  | 1 => .object "java/util/List"
  | 2 => .object "LogGrammar$Row"
  | 3 => .boolean
  | 4 => .boolean
  | 5 => .object "java/util/List"
  | 6 => .int
  | _ => .object "LogGrammar"
abbrev wsX80 : List Cond := u_ws RX8 TX8 8
theorem nmX8 : ∀ a, a < 8 → ∀ b, b < 8 → a ≠ b → (TX8 a).2.1 ≠ (TX8 b).2.1 := by decide +kernel
theorem tyX8_ok : ∀ k, k < 8 → parseFieldDescriptor (TX8 k).2.2.1 = some (tyX8 k) := by decide +kernel
abbrev cX8_answerFor : ByteArray := prog_4_method_4_code
def yX8_answerFor : MethodName := ⟨RX8, "answerFor", "(LLogGrammar$Event;Ljava/util/List;Z)I"⟩
def dkwX8_answerFor_6 : List UInt8 := [184, 0, 91, 54, 4, 132, 6, 1, 167, 255, 125, 21, 4, 172]
abbrev dktX8_answerFor_6 : List UInt8 := dkwX8_answerFor_6 ++ []
def dkwX8_answerFor_5 : List UInt8 := [180, 0, 47, 42, 180, 0, 25, 42, 180, 0, 47, 180, 0, 65, 43, 185, 0, 101, 2, 0, 182, 0, 105]
abbrev dktX8_answerFor_5 : List UInt8 := dkwX8_answerFor_5 ++ dktX8_answerFor_6
def dkwX8_answerFor_4 : List UInt8 := [21, 6, 167, 0, 4, 2, 182, 0, 59, 29, 154, 0, 10, 42, 180, 0, 47, 182, 0, 62, 21, 4, 42]
abbrev dktX8_answerFor_4 : List UInt8 := dkwX8_answerFor_4 ++ dktX8_answerFor_5
def dkwX8_answerFor_3 : List UInt8 := [167, 0, 4, 3, 54, 7, 21, 7, 153, 0, 66, 42, 180, 0, 47, 44, 42, 180, 0, 29, 153, 0, 8]
abbrev dktX8_answerFor_3 : List UInt8 := dkwX8_answerFor_3 ++ dktX8_answerFor_4
def dkwX8_answerFor_2 : List UInt8 := [159, 0, 22, 43, 180, 0, 98, 2, 160, 0, 18, 21, 5, 21, 6, 122, 4, 126, 4, 160, 0, 7, 4]
abbrev dktX8_answerFor_2 : List UInt8 := dkwX8_answerFor_2 ++ dktX8_answerFor_3
def dkwX8_answerFor_1 : List UInt8 := [16, 10, 167, 0, 4, 4, 162, 0, 119, 42, 180, 0, 29, 153, 0, 31, 43, 180, 0, 98, 21, 6]
abbrev dktX8_answerFor_1 : List UInt8 := dkwX8_answerFor_1 ++ dktX8_answerFor_2
def dkwX8_answerFor_0 : List UInt8 := [4, 54, 4, 42, 180, 0, 3, 182, 0, 95, 54, 5, 3, 54, 6, 21, 6, 42, 180, 0, 29, 153, 0, 8]
abbrev dktX8_answerFor_0 : List UInt8 := dkwX8_answerFor_0 ++ dktX8_answerFor_1
theorem dksX8_answerFor_0 : cX8_answerFor.data.toList.drop 0 = dktX8_answerFor_0 := by decide +kernel
theorem dksX8_answerFor_1 : cX8_answerFor.data.toList.drop 24 = dktX8_answerFor_1 := dk_seg dksX8_answerFor_0 24 rfl rfl
theorem dksX8_answerFor_2 : cX8_answerFor.data.toList.drop 46 = dktX8_answerFor_2 := dk_seg dksX8_answerFor_1 22 rfl rfl
theorem dksX8_answerFor_3 : cX8_answerFor.data.toList.drop 69 = dktX8_answerFor_3 := dk_seg dksX8_answerFor_2 23 rfl rfl
theorem dksX8_answerFor_4 : cX8_answerFor.data.toList.drop 92 = dktX8_answerFor_4 := dk_seg dksX8_answerFor_3 23 rfl rfl
theorem dksX8_answerFor_5 : cX8_answerFor.data.toList.drop 115 = dktX8_answerFor_5 := dk_seg dksX8_answerFor_4 23 rfl rfl
theorem dksX8_answerFor_6 : cX8_answerFor.data.toList.drop 138 = dktX8_answerFor_6 := dk_seg dksX8_answerFor_5 23 rfl rfl
theorem dX8_answerFor_0 : decode cX8_answerFor 0 = .ok (.iconst 1, 1) := dk_4 (dk_at dksX8_answerFor_0 0 rfl rfl)
theorem dX8_answerFor_1 : decode cX8_answerFor 1 = .ok (.istore 4, 2) := dk_54 4 (dk_at dksX8_answerFor_0 1 rfl rfl)
theorem dX8_answerFor_3 : decode cX8_answerFor 3 = .ok (.aload_n 0, 1) := dk_42 (dk_at dksX8_answerFor_0 3 rfl rfl)
theorem dX8_answerFor_4 : decode cX8_answerFor 4 = .ok (.getfield 3, 3) := dk_180 0 3 (dk_at dksX8_answerFor_0 4 rfl rfl)
theorem dX8_answerFor_7 : decode cX8_answerFor 7 = .ok (.invokevirtual 95, 3) := dk_182 0 95 (dk_at dksX8_answerFor_0 7 rfl rfl)
theorem dX8_answerFor_10 : decode cX8_answerFor 10 = .ok (.istore 5, 2) := dk_54 5 (dk_at dksX8_answerFor_0 10 rfl rfl)
theorem dX8_answerFor_12 : decode cX8_answerFor 12 = .ok (.iconst 0, 1) := dk_3 (dk_at dksX8_answerFor_0 12 rfl rfl)
theorem dX8_answerFor_13 : decode cX8_answerFor 13 = .ok (.istore 6, 2) := dk_54 6 (dk_at dksX8_answerFor_0 13 rfl rfl)
theorem dX8_answerFor_15 : decode cX8_answerFor 15 = .ok (.iload 6, 2) := dk_21 6 (dk_at dksX8_answerFor_0 15 rfl rfl)
theorem dX8_answerFor_17 : decode cX8_answerFor 17 = .ok (.aload_n 0, 1) := dk_42 (dk_at dksX8_answerFor_0 17 rfl rfl)
theorem dX8_answerFor_18 : decode cX8_answerFor 18 = .ok (.getfield 29, 3) := dk_180 0 29 (dk_at dksX8_answerFor_0 18 rfl rfl)
theorem dX8_answerFor_21 : decode cX8_answerFor 21 = .ok (.ifCond .eq 8, 3) := dk_153 0 8 (dk_at dksX8_answerFor_0 21 rfl rfl)
theorem dX8_answerFor_24 : decode cX8_answerFor 24 = .ok (.bipush 10, 2) := dk_16 10 (dk_at dksX8_answerFor_1 0 rfl rfl)
theorem dX8_answerFor_26 : decode cX8_answerFor 26 = .ok (.goto 4, 3) := dk_167 0 4 (dk_at dksX8_answerFor_1 2 rfl rfl)
theorem dX8_answerFor_29 : decode cX8_answerFor 29 = .ok (.iconst 1, 1) := dk_4 (dk_at dksX8_answerFor_1 5 rfl rfl)
theorem dX8_answerFor_30 : decode cX8_answerFor 30 = .ok (.if_icmp .ge 119, 3) := dk_162 0 119 (dk_at dksX8_answerFor_1 6 rfl rfl)
theorem dX8_answerFor_33 : decode cX8_answerFor 33 = .ok (.aload_n 0, 1) := dk_42 (dk_at dksX8_answerFor_1 9 rfl rfl)
theorem dX8_answerFor_34 : decode cX8_answerFor 34 = .ok (.getfield 29, 3) := dk_180 0 29 (dk_at dksX8_answerFor_1 10 rfl rfl)
theorem dX8_answerFor_37 : decode cX8_answerFor 37 = .ok (.ifCond .eq 31, 3) := dk_153 0 31 (dk_at dksX8_answerFor_1 13 rfl rfl)
theorem dX8_answerFor_40 : decode cX8_answerFor 40 = .ok (.aload_n 1, 1) := dk_43 (dk_at dksX8_answerFor_1 16 rfl rfl)
theorem dX8_answerFor_41 : decode cX8_answerFor 41 = .ok (.getfield 98, 3) := dk_180 0 98 (dk_at dksX8_answerFor_1 17 rfl rfl)
theorem dX8_answerFor_44 : decode cX8_answerFor 44 = .ok (.iload 6, 2) := dk_21 6 (dk_at dksX8_answerFor_1 20 rfl rfl)
theorem dX8_answerFor_46 : decode cX8_answerFor 46 = .ok (.if_icmp .eq 22, 3) := dk_159 0 22 (dk_at dksX8_answerFor_2 0 rfl rfl)
theorem dX8_answerFor_49 : decode cX8_answerFor 49 = .ok (.aload_n 1, 1) := dk_43 (dk_at dksX8_answerFor_2 3 rfl rfl)
theorem dX8_answerFor_50 : decode cX8_answerFor 50 = .ok (.getfield 98, 3) := dk_180 0 98 (dk_at dksX8_answerFor_2 4 rfl rfl)
theorem dX8_answerFor_53 : decode cX8_answerFor 53 = .ok (.iconst (-1), 1) := dk_2 (dk_at dksX8_answerFor_2 7 rfl rfl)
theorem dX8_answerFor_54 : decode cX8_answerFor 54 = .ok (.if_icmp .ne 18, 3) := dk_160 0 18 (dk_at dksX8_answerFor_2 8 rfl rfl)
theorem dX8_answerFor_57 : decode cX8_answerFor 57 = .ok (.iload 5, 2) := dk_21 5 (dk_at dksX8_answerFor_2 11 rfl rfl)
theorem dX8_answerFor_59 : decode cX8_answerFor 59 = .ok (.iload 6, 2) := dk_21 6 (dk_at dksX8_answerFor_2 13 rfl rfl)
theorem dX8_answerFor_61 : decode cX8_answerFor 61 = .ok (.ishr, 1) := dk_122 (dk_at dksX8_answerFor_2 15 rfl rfl)
theorem dX8_answerFor_62 : decode cX8_answerFor 62 = .ok (.iconst 1, 1) := dk_4 (dk_at dksX8_answerFor_2 16 rfl rfl)
theorem dX8_answerFor_63 : decode cX8_answerFor 63 = .ok (.iand, 1) := dk_126 (dk_at dksX8_answerFor_2 17 rfl rfl)
theorem dX8_answerFor_64 : decode cX8_answerFor 64 = .ok (.iconst 1, 1) := dk_4 (dk_at dksX8_answerFor_2 18 rfl rfl)
theorem dX8_answerFor_65 : decode cX8_answerFor 65 = .ok (.if_icmp .ne 7, 3) := dk_160 0 7 (dk_at dksX8_answerFor_2 19 rfl rfl)
theorem dX8_answerFor_68 : decode cX8_answerFor 68 = .ok (.iconst 1, 1) := dk_4 (dk_at dksX8_answerFor_2 22 rfl rfl)
theorem dX8_answerFor_69 : decode cX8_answerFor 69 = .ok (.goto 4, 3) := dk_167 0 4 (dk_at dksX8_answerFor_3 0 rfl rfl)
theorem dX8_answerFor_72 : decode cX8_answerFor 72 = .ok (.iconst 0, 1) := dk_3 (dk_at dksX8_answerFor_3 3 rfl rfl)
theorem dX8_answerFor_73 : decode cX8_answerFor 73 = .ok (.istore 7, 2) := dk_54 7 (dk_at dksX8_answerFor_3 4 rfl rfl)
theorem dX8_answerFor_75 : decode cX8_answerFor 75 = .ok (.iload 7, 2) := dk_21 7 (dk_at dksX8_answerFor_3 6 rfl rfl)
theorem dX8_answerFor_77 : decode cX8_answerFor 77 = .ok (.ifCond .eq 66, 3) := dk_153 0 66 (dk_at dksX8_answerFor_3 8 rfl rfl)
theorem dX8_answerFor_80 : decode cX8_answerFor 80 = .ok (.aload_n 0, 1) := dk_42 (dk_at dksX8_answerFor_3 11 rfl rfl)
theorem dX8_answerFor_81 : decode cX8_answerFor 81 = .ok (.getfield 47, 3) := dk_180 0 47 (dk_at dksX8_answerFor_3 12 rfl rfl)
theorem dX8_answerFor_84 : decode cX8_answerFor 84 = .ok (.aload_n 2, 1) := dk_44 (dk_at dksX8_answerFor_3 15 rfl rfl)
theorem dX8_answerFor_85 : decode cX8_answerFor 85 = .ok (.aload_n 0, 1) := dk_42 (dk_at dksX8_answerFor_3 16 rfl rfl)
theorem dX8_answerFor_86 : decode cX8_answerFor 86 = .ok (.getfield 29, 3) := dk_180 0 29 (dk_at dksX8_answerFor_3 17 rfl rfl)
theorem dX8_answerFor_89 : decode cX8_answerFor 89 = .ok (.ifCond .eq 8, 3) := dk_153 0 8 (dk_at dksX8_answerFor_3 20 rfl rfl)
theorem dX8_answerFor_92 : decode cX8_answerFor 92 = .ok (.iload 6, 2) := dk_21 6 (dk_at dksX8_answerFor_4 0 rfl rfl)
theorem dX8_answerFor_94 : decode cX8_answerFor 94 = .ok (.goto 4, 3) := dk_167 0 4 (dk_at dksX8_answerFor_4 2 rfl rfl)
theorem dX8_answerFor_97 : decode cX8_answerFor 97 = .ok (.iconst (-1), 1) := dk_2 (dk_at dksX8_answerFor_4 5 rfl rfl)
theorem dX8_answerFor_98 : decode cX8_answerFor 98 = .ok (.invokevirtual 59, 3) := dk_182 0 59 (dk_at dksX8_answerFor_4 6 rfl rfl)
theorem dX8_answerFor_101 : decode cX8_answerFor 101 = .ok (.iload_n 3, 1) := dk_29 (dk_at dksX8_answerFor_4 9 rfl rfl)
theorem dX8_answerFor_102 : decode cX8_answerFor 102 = .ok (.ifCond .ne 10, 3) := dk_154 0 10 (dk_at dksX8_answerFor_4 10 rfl rfl)
theorem dX8_answerFor_105 : decode cX8_answerFor 105 = .ok (.aload_n 0, 1) := dk_42 (dk_at dksX8_answerFor_4 13 rfl rfl)
theorem dX8_answerFor_106 : decode cX8_answerFor 106 = .ok (.getfield 47, 3) := dk_180 0 47 (dk_at dksX8_answerFor_4 14 rfl rfl)
theorem dX8_answerFor_109 : decode cX8_answerFor 109 = .ok (.invokevirtual 62, 3) := dk_182 0 62 (dk_at dksX8_answerFor_4 17 rfl rfl)
theorem dX8_answerFor_112 : decode cX8_answerFor 112 = .ok (.iload 4, 2) := dk_21 4 (dk_at dksX8_answerFor_4 20 rfl rfl)
theorem dX8_answerFor_114 : decode cX8_answerFor 114 = .ok (.aload_n 0, 1) := dk_42 (dk_at dksX8_answerFor_4 22 rfl rfl)
theorem dX8_answerFor_115 : decode cX8_answerFor 115 = .ok (.getfield 47, 3) := dk_180 0 47 (dk_at dksX8_answerFor_5 0 rfl rfl)
theorem dX8_answerFor_118 : decode cX8_answerFor 118 = .ok (.aload_n 0, 1) := dk_42 (dk_at dksX8_answerFor_5 3 rfl rfl)
theorem dX8_answerFor_119 : decode cX8_answerFor 119 = .ok (.getfield 25, 3) := dk_180 0 25 (dk_at dksX8_answerFor_5 4 rfl rfl)
theorem dX8_answerFor_122 : decode cX8_answerFor 122 = .ok (.aload_n 0, 1) := dk_42 (dk_at dksX8_answerFor_5 7 rfl rfl)
theorem dX8_answerFor_123 : decode cX8_answerFor 123 = .ok (.getfield 47, 3) := dk_180 0 47 (dk_at dksX8_answerFor_5 8 rfl rfl)
theorem dX8_answerFor_126 : decode cX8_answerFor 126 = .ok (.getfield 65, 3) := dk_180 0 65 (dk_at dksX8_answerFor_5 11 rfl rfl)
theorem dX8_answerFor_129 : decode cX8_answerFor 129 = .ok (.aload_n 1, 1) := dk_43 (dk_at dksX8_answerFor_5 14 rfl rfl)
theorem dX8_answerFor_130 : decode cX8_answerFor 130 = .ok (.invokeinterface 101 2, 5) := by decide +kernel
theorem dX8_answerFor_135 : decode cX8_answerFor 135 = .ok (.invokevirtual 105, 3) := dk_182 0 105 (dk_at dksX8_answerFor_5 20 rfl rfl)
theorem dX8_answerFor_138 : decode cX8_answerFor 138 = .ok (.invokestatic 91, 3) := dk_184 0 91 (dk_at dksX8_answerFor_6 0 rfl rfl)
theorem dX8_answerFor_141 : decode cX8_answerFor 141 = .ok (.istore 4, 2) := dk_54 4 (dk_at dksX8_answerFor_6 3 rfl rfl)
theorem dX8_answerFor_143 : decode cX8_answerFor 143 = .ok (.iinc 6 1, 3) := dk_132 6 1 (dk_at dksX8_answerFor_6 5 rfl rfl)
theorem dX8_answerFor_146 : decode cX8_answerFor 146 = .ok (.goto (-131), 3) := dk_167 255 125 (dk_at dksX8_answerFor_6 8 rfl rfl)
theorem dX8_answerFor_149 : decode cX8_answerFor 149 = .ok (.iload 4, 2) := dk_21 4 (dk_at dksX8_answerFor_6 11 rfl rfl)
theorem dX8_answerFor_151 : decode cX8_answerFor 151 = .ok (.ireturn, 1) := dk_172 (dk_at dksX8_answerFor_6 13 rfl rfl)
abbrev cX8_find : ByteArray := prog_4_method_5_code
def yX8_find : MethodName := ⟨RX8, "find", "()V"⟩
def dkwX8_find_9 : List UInt8 := [185, 0, 142, 3, 0, 87, 132, 1, 1, 167, 255, 58, 177]
abbrev dktX8_find_9 : List UInt8 := dkwX8_find_9 ++ []
def dkwX8_find_8 : List UInt8 := [27, 46, 184, 0, 119, 42, 180, 0, 3, 180, 0, 114, 185, 0, 68, 1, 0, 184, 0, 119, 183, 0, 125]
abbrev dktX8_find_8 : List UInt8 := dkwX8_find_8 ++ dktX8_find_9
def dkwX8_find_7 : List UInt8 := [167, 0, 4, 4, 96, 181, 0, 139, 42, 180, 0, 22, 27, 187, 0, 117, 89, 42, 180, 0, 3, 180, 0, 51]
abbrev dktX8_find_7 : List UInt8 := dkwX8_find_7 ++ dktX8_find_8
def dkwX8_find_6 : List UInt8 := [27, 185, 0, 74, 2, 0, 192, 0, 117, 180, 0, 132, 192, 0, 120, 182, 0, 136, 5, 160, 0, 7, 3]
abbrev dktX8_find_6 : List UInt8 := dkwX8_find_6 ++ dktX8_find_7
def dkwX8_find_5 : List UInt8 := [182, 0, 136, 42, 180, 0, 3, 180, 0, 51, 27, 46, 159, 0, 88, 42, 89, 180, 0, 139, 42, 180, 0, 22]
abbrev dktX8_find_5 : List UInt8 := dkwX8_find_5 ++ dktX8_find_6
def dkwX8_find_4 : List UInt8 := [167, 0, 122, 42, 180, 0, 22, 27, 185, 0, 74, 2, 0, 192, 0, 117, 180, 0, 132, 192, 0, 120]
abbrev dktX8_find_4 : List UInt8 := dkwX8_find_4 ++ dktX8_find_5
def dkwX8_find_3 : List UInt8 := [180, 0, 3, 180, 0, 114, 185, 0, 68, 1, 0, 184, 0, 119, 183, 0, 125, 185, 0, 128, 2, 0, 87]
abbrev dktX8_find_3 : List UInt8 := dkwX8_find_3 ++ dktX8_find_4
def dkwX8_find_2 : List UInt8 := [160, 0, 50, 42, 180, 0, 22, 187, 0, 117, 89, 42, 180, 0, 3, 180, 0, 51, 27, 46, 184, 0, 119, 42]
abbrev dktX8_find_2 : List UInt8 := dkwX8_find_2 ++ dktX8_find_3
def dkwX8_find_1 : List UInt8 := [180, 0, 3, 180, 0, 114, 185, 0, 68, 1, 0, 162, 0, 188, 27, 42, 180, 0, 22, 185, 0, 68, 1, 0]
abbrev dktX8_find_1 : List UInt8 := dkwX8_find_1 ++ dktX8_find_2
def dkwX8_find_0 : List UInt8 := [42, 42, 180, 0, 3, 180, 0, 108, 42, 180, 0, 3, 182, 0, 95, 182, 0, 111, 3, 60, 27, 42]
abbrev dktX8_find_0 : List UInt8 := dkwX8_find_0 ++ dktX8_find_1
theorem dksX8_find_0 : cX8_find.data.toList.drop 0 = dktX8_find_0 := by decide +kernel
theorem dksX8_find_1 : cX8_find.data.toList.drop 22 = dktX8_find_1 := dk_seg dksX8_find_0 22 rfl rfl
theorem dksX8_find_2 : cX8_find.data.toList.drop 46 = dktX8_find_2 := dk_seg dksX8_find_1 24 rfl rfl
theorem dksX8_find_3 : cX8_find.data.toList.drop 70 = dktX8_find_3 := dk_seg dksX8_find_2 24 rfl rfl
theorem dksX8_find_4 : cX8_find.data.toList.drop 93 = dktX8_find_4 := dk_seg dksX8_find_3 23 rfl rfl
theorem dksX8_find_5 : cX8_find.data.toList.drop 115 = dktX8_find_5 := dk_seg dksX8_find_4 22 rfl rfl
theorem dksX8_find_6 : cX8_find.data.toList.drop 139 = dktX8_find_6 := dk_seg dksX8_find_5 24 rfl rfl
theorem dksX8_find_7 : cX8_find.data.toList.drop 162 = dktX8_find_7 := dk_seg dksX8_find_6 23 rfl rfl
theorem dksX8_find_8 : cX8_find.data.toList.drop 186 = dktX8_find_8 := dk_seg dksX8_find_7 24 rfl rfl
theorem dksX8_find_9 : cX8_find.data.toList.drop 209 = dktX8_find_9 := dk_seg dksX8_find_8 23 rfl rfl
theorem dX8_find_0 : decode cX8_find 0 = .ok (.aload_n 0, 1) := dk_42 (dk_at dksX8_find_0 0 rfl rfl)
theorem dX8_find_1 : decode cX8_find 1 = .ok (.aload_n 0, 1) := dk_42 (dk_at dksX8_find_0 1 rfl rfl)
theorem dX8_find_2 : decode cX8_find 2 = .ok (.getfield 3, 3) := dk_180 0 3 (dk_at dksX8_find_0 2 rfl rfl)
theorem dX8_find_5 : decode cX8_find 5 = .ok (.getfield 108, 3) := dk_180 0 108 (dk_at dksX8_find_0 5 rfl rfl)
theorem dX8_find_8 : decode cX8_find 8 = .ok (.aload_n 0, 1) := dk_42 (dk_at dksX8_find_0 8 rfl rfl)
theorem dX8_find_9 : decode cX8_find 9 = .ok (.getfield 3, 3) := dk_180 0 3 (dk_at dksX8_find_0 9 rfl rfl)
theorem dX8_find_12 : decode cX8_find 12 = .ok (.invokevirtual 95, 3) := dk_182 0 95 (dk_at dksX8_find_0 12 rfl rfl)
theorem dX8_find_15 : decode cX8_find 15 = .ok (.invokevirtual 111, 3) := dk_182 0 111 (dk_at dksX8_find_0 15 rfl rfl)
theorem dX8_find_18 : decode cX8_find 18 = .ok (.iconst 0, 1) := dk_3 (dk_at dksX8_find_0 18 rfl rfl)
theorem dX8_find_19 : decode cX8_find 19 = .ok (.istore_n 1, 1) := dk_60 (dk_at dksX8_find_0 19 rfl rfl)
theorem dX8_find_20 : decode cX8_find 20 = .ok (.iload_n 1, 1) := dk_27 (dk_at dksX8_find_0 20 rfl rfl)
theorem dX8_find_21 : decode cX8_find 21 = .ok (.aload_n 0, 1) := dk_42 (dk_at dksX8_find_0 21 rfl rfl)
theorem dX8_find_22 : decode cX8_find 22 = .ok (.getfield 3, 3) := dk_180 0 3 (dk_at dksX8_find_1 0 rfl rfl)
theorem dX8_find_25 : decode cX8_find 25 = .ok (.getfield 114, 3) := dk_180 0 114 (dk_at dksX8_find_1 3 rfl rfl)
theorem dX8_find_28 : decode cX8_find 28 = .ok (.invokeinterface 68 1, 5) := by decide +kernel
theorem dX8_find_33 : decode cX8_find 33 = .ok (.if_icmp .ge 188, 3) := dk_162 0 188 (dk_at dksX8_find_1 11 rfl rfl)
theorem dX8_find_36 : decode cX8_find 36 = .ok (.iload_n 1, 1) := dk_27 (dk_at dksX8_find_1 14 rfl rfl)
theorem dX8_find_37 : decode cX8_find 37 = .ok (.aload_n 0, 1) := dk_42 (dk_at dksX8_find_1 15 rfl rfl)
theorem dX8_find_38 : decode cX8_find 38 = .ok (.getfield 22, 3) := dk_180 0 22 (dk_at dksX8_find_1 16 rfl rfl)
theorem dX8_find_41 : decode cX8_find 41 = .ok (.invokeinterface 68 1, 5) := by decide +kernel
theorem dX8_find_46 : decode cX8_find 46 = .ok (.if_icmp .ne 50, 3) := dk_160 0 50 (dk_at dksX8_find_2 0 rfl rfl)
theorem dX8_find_49 : decode cX8_find 49 = .ok (.aload_n 0, 1) := dk_42 (dk_at dksX8_find_2 3 rfl rfl)
theorem dX8_find_50 : decode cX8_find 50 = .ok (.getfield 22, 3) := dk_180 0 22 (dk_at dksX8_find_2 4 rfl rfl)
theorem dX8_find_53 : decode cX8_find 53 = .ok (.new 117, 3) := dk_187 0 117 (dk_at dksX8_find_2 7 rfl rfl)
theorem dX8_find_56 : decode cX8_find 56 = .ok (.dup, 1) := dk_89 (dk_at dksX8_find_2 10 rfl rfl)
theorem dX8_find_57 : decode cX8_find 57 = .ok (.aload_n 0, 1) := dk_42 (dk_at dksX8_find_2 11 rfl rfl)
theorem dX8_find_58 : decode cX8_find 58 = .ok (.getfield 3, 3) := dk_180 0 3 (dk_at dksX8_find_2 12 rfl rfl)
theorem dX8_find_61 : decode cX8_find 61 = .ok (.getfield 51, 3) := dk_180 0 51 (dk_at dksX8_find_2 15 rfl rfl)
theorem dX8_find_64 : decode cX8_find 64 = .ok (.iload_n 1, 1) := dk_27 (dk_at dksX8_find_2 18 rfl rfl)
theorem dX8_find_65 : decode cX8_find 65 = .ok (.iaload, 1) := dk_46 (dk_at dksX8_find_2 19 rfl rfl)
theorem dX8_find_66 : decode cX8_find 66 = .ok (.invokestatic 119, 3) := dk_184 0 119 (dk_at dksX8_find_2 20 rfl rfl)
theorem dX8_find_69 : decode cX8_find 69 = .ok (.aload_n 0, 1) := dk_42 (dk_at dksX8_find_2 23 rfl rfl)
theorem dX8_find_70 : decode cX8_find 70 = .ok (.getfield 3, 3) := dk_180 0 3 (dk_at dksX8_find_3 0 rfl rfl)
theorem dX8_find_73 : decode cX8_find 73 = .ok (.getfield 114, 3) := dk_180 0 114 (dk_at dksX8_find_3 3 rfl rfl)
theorem dX8_find_76 : decode cX8_find 76 = .ok (.invokeinterface 68 1, 5) := by decide +kernel
theorem dX8_find_81 : decode cX8_find 81 = .ok (.invokestatic 119, 3) := dk_184 0 119 (dk_at dksX8_find_3 11 rfl rfl)
theorem dX8_find_84 : decode cX8_find 84 = .ok (.invokespecial 125, 3) := dk_183 0 125 (dk_at dksX8_find_3 14 rfl rfl)
theorem dX8_find_87 : decode cX8_find 87 = .ok (.invokeinterface 128 2, 5) := by decide +kernel
theorem dX8_find_92 : decode cX8_find 92 = .ok (.pop, 1) := dk_87 (dk_at dksX8_find_3 22 rfl rfl)
theorem dX8_find_93 : decode cX8_find 93 = .ok (.goto 122, 3) := dk_167 0 122 (dk_at dksX8_find_4 0 rfl rfl)
theorem dX8_find_96 : decode cX8_find 96 = .ok (.aload_n 0, 1) := dk_42 (dk_at dksX8_find_4 3 rfl rfl)
theorem dX8_find_97 : decode cX8_find 97 = .ok (.getfield 22, 3) := dk_180 0 22 (dk_at dksX8_find_4 4 rfl rfl)
theorem dX8_find_100 : decode cX8_find 100 = .ok (.iload_n 1, 1) := dk_27 (dk_at dksX8_find_4 7 rfl rfl)
theorem dX8_find_101 : decode cX8_find 101 = .ok (.invokeinterface 74 2, 5) := by decide +kernel
theorem dX8_find_106 : decode cX8_find 106 = .ok (.checkcast 117, 3) := dk_192 0 117 (dk_at dksX8_find_4 13 rfl rfl)
theorem dX8_find_109 : decode cX8_find 109 = .ok (.getfield 132, 3) := dk_180 0 132 (dk_at dksX8_find_4 16 rfl rfl)
theorem dX8_find_112 : decode cX8_find 112 = .ok (.checkcast 120, 3) := dk_192 0 120 (dk_at dksX8_find_4 19 rfl rfl)
theorem dX8_find_115 : decode cX8_find 115 = .ok (.invokevirtual 136, 3) := dk_182 0 136 (dk_at dksX8_find_5 0 rfl rfl)
theorem dX8_find_118 : decode cX8_find 118 = .ok (.aload_n 0, 1) := dk_42 (dk_at dksX8_find_5 3 rfl rfl)
theorem dX8_find_119 : decode cX8_find 119 = .ok (.getfield 3, 3) := dk_180 0 3 (dk_at dksX8_find_5 4 rfl rfl)
theorem dX8_find_122 : decode cX8_find 122 = .ok (.getfield 51, 3) := dk_180 0 51 (dk_at dksX8_find_5 7 rfl rfl)
theorem dX8_find_125 : decode cX8_find 125 = .ok (.iload_n 1, 1) := dk_27 (dk_at dksX8_find_5 10 rfl rfl)
theorem dX8_find_126 : decode cX8_find 126 = .ok (.iaload, 1) := dk_46 (dk_at dksX8_find_5 11 rfl rfl)
theorem dX8_find_127 : decode cX8_find 127 = .ok (.if_icmp .eq 88, 3) := dk_159 0 88 (dk_at dksX8_find_5 12 rfl rfl)
theorem dX8_find_130 : decode cX8_find 130 = .ok (.aload_n 0, 1) := dk_42 (dk_at dksX8_find_5 15 rfl rfl)
theorem dX8_find_131 : decode cX8_find 131 = .ok (.dup, 1) := dk_89 (dk_at dksX8_find_5 16 rfl rfl)
theorem dX8_find_132 : decode cX8_find 132 = .ok (.getfield 139, 3) := dk_180 0 139 (dk_at dksX8_find_5 17 rfl rfl)
theorem dX8_find_135 : decode cX8_find 135 = .ok (.aload_n 0, 1) := dk_42 (dk_at dksX8_find_5 20 rfl rfl)
theorem dX8_find_136 : decode cX8_find 136 = .ok (.getfield 22, 3) := dk_180 0 22 (dk_at dksX8_find_5 21 rfl rfl)
theorem dX8_find_139 : decode cX8_find 139 = .ok (.iload_n 1, 1) := dk_27 (dk_at dksX8_find_6 0 rfl rfl)
theorem dX8_find_140 : decode cX8_find 140 = .ok (.invokeinterface 74 2, 5) := by decide +kernel
theorem dX8_find_145 : decode cX8_find 145 = .ok (.checkcast 117, 3) := dk_192 0 117 (dk_at dksX8_find_6 6 rfl rfl)
theorem dX8_find_148 : decode cX8_find 148 = .ok (.getfield 132, 3) := dk_180 0 132 (dk_at dksX8_find_6 9 rfl rfl)
theorem dX8_find_151 : decode cX8_find 151 = .ok (.checkcast 120, 3) := dk_192 0 120 (dk_at dksX8_find_6 12 rfl rfl)
theorem dX8_find_154 : decode cX8_find 154 = .ok (.invokevirtual 136, 3) := dk_182 0 136 (dk_at dksX8_find_6 15 rfl rfl)
theorem dX8_find_157 : decode cX8_find 157 = .ok (.iconst 2, 1) := dk_5 (dk_at dksX8_find_6 18 rfl rfl)
theorem dX8_find_158 : decode cX8_find 158 = .ok (.if_icmp .ne 7, 3) := dk_160 0 7 (dk_at dksX8_find_6 19 rfl rfl)
theorem dX8_find_161 : decode cX8_find 161 = .ok (.iconst 0, 1) := dk_3 (dk_at dksX8_find_6 22 rfl rfl)
theorem dX8_find_162 : decode cX8_find 162 = .ok (.goto 4, 3) := dk_167 0 4 (dk_at dksX8_find_7 0 rfl rfl)
theorem dX8_find_165 : decode cX8_find 165 = .ok (.iconst 1, 1) := dk_4 (dk_at dksX8_find_7 3 rfl rfl)
theorem dX8_find_166 : decode cX8_find 166 = .ok (.iadd, 1) := dk_96 (dk_at dksX8_find_7 4 rfl rfl)
theorem dX8_find_167 : decode cX8_find 167 = .ok (.putfield 139, 3) := dk_181 0 139 (dk_at dksX8_find_7 5 rfl rfl)
theorem dX8_find_170 : decode cX8_find 170 = .ok (.aload_n 0, 1) := dk_42 (dk_at dksX8_find_7 8 rfl rfl)
theorem dX8_find_171 : decode cX8_find 171 = .ok (.getfield 22, 3) := dk_180 0 22 (dk_at dksX8_find_7 9 rfl rfl)
theorem dX8_find_174 : decode cX8_find 174 = .ok (.iload_n 1, 1) := dk_27 (dk_at dksX8_find_7 12 rfl rfl)
theorem dX8_find_175 : decode cX8_find 175 = .ok (.new 117, 3) := dk_187 0 117 (dk_at dksX8_find_7 13 rfl rfl)
theorem dX8_find_178 : decode cX8_find 178 = .ok (.dup, 1) := dk_89 (dk_at dksX8_find_7 16 rfl rfl)
theorem dX8_find_179 : decode cX8_find 179 = .ok (.aload_n 0, 1) := dk_42 (dk_at dksX8_find_7 17 rfl rfl)
theorem dX8_find_180 : decode cX8_find 180 = .ok (.getfield 3, 3) := dk_180 0 3 (dk_at dksX8_find_7 18 rfl rfl)
theorem dX8_find_183 : decode cX8_find 183 = .ok (.getfield 51, 3) := dk_180 0 51 (dk_at dksX8_find_7 21 rfl rfl)
theorem dX8_find_186 : decode cX8_find 186 = .ok (.iload_n 1, 1) := dk_27 (dk_at dksX8_find_8 0 rfl rfl)
theorem dX8_find_187 : decode cX8_find 187 = .ok (.iaload, 1) := dk_46 (dk_at dksX8_find_8 1 rfl rfl)
theorem dX8_find_188 : decode cX8_find 188 = .ok (.invokestatic 119, 3) := dk_184 0 119 (dk_at dksX8_find_8 2 rfl rfl)
theorem dX8_find_191 : decode cX8_find 191 = .ok (.aload_n 0, 1) := dk_42 (dk_at dksX8_find_8 5 rfl rfl)
theorem dX8_find_192 : decode cX8_find 192 = .ok (.getfield 3, 3) := dk_180 0 3 (dk_at dksX8_find_8 6 rfl rfl)
theorem dX8_find_195 : decode cX8_find 195 = .ok (.getfield 114, 3) := dk_180 0 114 (dk_at dksX8_find_8 9 rfl rfl)
theorem dX8_find_198 : decode cX8_find 198 = .ok (.invokeinterface 68 1, 5) := by decide +kernel
theorem dX8_find_203 : decode cX8_find 203 = .ok (.invokestatic 119, 3) := dk_184 0 119 (dk_at dksX8_find_8 17 rfl rfl)
theorem dX8_find_206 : decode cX8_find 206 = .ok (.invokespecial 125, 3) := dk_183 0 125 (dk_at dksX8_find_8 20 rfl rfl)
theorem dX8_find_209 : decode cX8_find 209 = .ok (.invokeinterface 142 3, 5) := by decide +kernel
theorem dX8_find_214 : decode cX8_find 214 = .ok (.pop, 1) := dk_87 (dk_at dksX8_find_9 5 rfl rfl)
theorem dX8_find_215 : decode cX8_find 215 = .ok (.iinc 1 1, 3) := dk_132 1 1 (dk_at dksX8_find_9 6 rfl rfl)
theorem dX8_find_218 : decode cX8_find 218 = .ok (.goto (-198), 3) := dk_167 255 58 (dk_at dksX8_find_9 9 rfl rfl)
theorem dX8_find_221 : decode cX8_find 221 = .ok (.return_, 1) := dk_177 (dk_at dksX8_find_9 12 rfl rfl)
abbrev cX8_answersIn : ByteArray := prog_4_method_2_code
def yX8_answersIn : MethodName := ⟨RX8, "answersIn", "(Ljava/util/List;I)V"⟩
def dkwX8_answersIn_3 : List UInt8 := [167, 255, 225, 177]
abbrev dktX8_answersIn_3 : List UInt8 := dkwX8_answersIn_3 ++ []
def dkwX8_answersIn_2 : List UInt8 := [180, 0, 29, 153, 0, 24, 28, 29, 122, 4, 126, 4, 160, 0, 9, 42, 43, 29, 182, 0, 55, 132, 3, 1]
abbrev dktX8_answersIn_2 : List UInt8 := dkwX8_answersIn_2 ++ dktX8_answersIn_3
def dkwX8_answersIn_1 : List UInt8 := [42, 180, 0, 29, 154, 0, 9, 42, 43, 2, 182, 0, 55, 3, 62, 29, 16, 10, 162, 0, 31, 42]
abbrev dktX8_answersIn_1 : List UInt8 := dkwX8_answersIn_1 ++ dktX8_answersIn_2
def dkwX8_answersIn_0 : List UInt8 := [3, 62, 29, 16, 80, 162, 0, 19, 42, 180, 0, 3, 180, 0, 51, 29, 4, 79, 132, 3, 1, 167, 255, 237]
abbrev dktX8_answersIn_0 : List UInt8 := dkwX8_answersIn_0 ++ dktX8_answersIn_1
theorem dksX8_answersIn_0 : cX8_answersIn.data.toList.drop 0 = dktX8_answersIn_0 := by decide +kernel
theorem dksX8_answersIn_1 : cX8_answersIn.data.toList.drop 24 = dktX8_answersIn_1 := dk_seg dksX8_answersIn_0 24 rfl rfl
theorem dksX8_answersIn_2 : cX8_answersIn.data.toList.drop 46 = dktX8_answersIn_2 := dk_seg dksX8_answersIn_1 22 rfl rfl
theorem dksX8_answersIn_3 : cX8_answersIn.data.toList.drop 70 = dktX8_answersIn_3 := dk_seg dksX8_answersIn_2 24 rfl rfl
theorem dX8_answersIn_0 : decode cX8_answersIn 0 = .ok (.iconst 0, 1) := dk_3 (dk_at dksX8_answersIn_0 0 rfl rfl)
theorem dX8_answersIn_1 : decode cX8_answersIn 1 = .ok (.istore_n 3, 1) := dk_62 (dk_at dksX8_answersIn_0 1 rfl rfl)
theorem dX8_answersIn_2 : decode cX8_answersIn 2 = .ok (.iload_n 3, 1) := dk_29 (dk_at dksX8_answersIn_0 2 rfl rfl)
theorem dX8_answersIn_3 : decode cX8_answersIn 3 = .ok (.bipush 80, 2) := dk_16 80 (dk_at dksX8_answersIn_0 3 rfl rfl)
theorem dX8_answersIn_5 : decode cX8_answersIn 5 = .ok (.if_icmp .ge 19, 3) := dk_162 0 19 (dk_at dksX8_answersIn_0 5 rfl rfl)
theorem dX8_answersIn_8 : decode cX8_answersIn 8 = .ok (.aload_n 0, 1) := dk_42 (dk_at dksX8_answersIn_0 8 rfl rfl)
theorem dX8_answersIn_9 : decode cX8_answersIn 9 = .ok (.getfield 3, 3) := dk_180 0 3 (dk_at dksX8_answersIn_0 9 rfl rfl)
theorem dX8_answersIn_12 : decode cX8_answersIn 12 = .ok (.getfield 51, 3) := dk_180 0 51 (dk_at dksX8_answersIn_0 12 rfl rfl)
theorem dX8_answersIn_15 : decode cX8_answersIn 15 = .ok (.iload_n 3, 1) := dk_29 (dk_at dksX8_answersIn_0 15 rfl rfl)
theorem dX8_answersIn_16 : decode cX8_answersIn 16 = .ok (.iconst 1, 1) := dk_4 (dk_at dksX8_answersIn_0 16 rfl rfl)
theorem dX8_answersIn_17 : decode cX8_answersIn 17 = .ok (.iastore, 1) := dk_79 (dk_at dksX8_answersIn_0 17 rfl rfl)
theorem dX8_answersIn_18 : decode cX8_answersIn 18 = .ok (.iinc 3 1, 3) := dk_132 3 1 (dk_at dksX8_answersIn_0 18 rfl rfl)
theorem dX8_answersIn_21 : decode cX8_answersIn 21 = .ok (.goto (-19), 3) := dk_167 255 237 (dk_at dksX8_answersIn_0 21 rfl rfl)
theorem dX8_answersIn_24 : decode cX8_answersIn 24 = .ok (.aload_n 0, 1) := dk_42 (dk_at dksX8_answersIn_1 0 rfl rfl)
theorem dX8_answersIn_25 : decode cX8_answersIn 25 = .ok (.getfield 29, 3) := dk_180 0 29 (dk_at dksX8_answersIn_1 1 rfl rfl)
theorem dX8_answersIn_28 : decode cX8_answersIn 28 = .ok (.ifCond .ne 9, 3) := dk_154 0 9 (dk_at dksX8_answersIn_1 4 rfl rfl)
theorem dX8_answersIn_31 : decode cX8_answersIn 31 = .ok (.aload_n 0, 1) := dk_42 (dk_at dksX8_answersIn_1 7 rfl rfl)
theorem dX8_answersIn_32 : decode cX8_answersIn 32 = .ok (.aload_n 1, 1) := dk_43 (dk_at dksX8_answersIn_1 8 rfl rfl)
theorem dX8_answersIn_33 : decode cX8_answersIn 33 = .ok (.iconst (-1), 1) := dk_2 (dk_at dksX8_answersIn_1 9 rfl rfl)
theorem dX8_answersIn_34 : decode cX8_answersIn 34 = .ok (.invokevirtual 55, 3) := dk_182 0 55 (dk_at dksX8_answersIn_1 10 rfl rfl)
theorem dX8_answersIn_37 : decode cX8_answersIn 37 = .ok (.iconst 0, 1) := dk_3 (dk_at dksX8_answersIn_1 13 rfl rfl)
theorem dX8_answersIn_38 : decode cX8_answersIn 38 = .ok (.istore_n 3, 1) := dk_62 (dk_at dksX8_answersIn_1 14 rfl rfl)
theorem dX8_answersIn_39 : decode cX8_answersIn 39 = .ok (.iload_n 3, 1) := dk_29 (dk_at dksX8_answersIn_1 15 rfl rfl)
theorem dX8_answersIn_40 : decode cX8_answersIn 40 = .ok (.bipush 10, 2) := dk_16 10 (dk_at dksX8_answersIn_1 16 rfl rfl)
theorem dX8_answersIn_42 : decode cX8_answersIn 42 = .ok (.if_icmp .ge 31, 3) := dk_162 0 31 (dk_at dksX8_answersIn_1 18 rfl rfl)
theorem dX8_answersIn_45 : decode cX8_answersIn 45 = .ok (.aload_n 0, 1) := dk_42 (dk_at dksX8_answersIn_1 21 rfl rfl)
theorem dX8_answersIn_46 : decode cX8_answersIn 46 = .ok (.getfield 29, 3) := dk_180 0 29 (dk_at dksX8_answersIn_2 0 rfl rfl)
theorem dX8_answersIn_49 : decode cX8_answersIn 49 = .ok (.ifCond .eq 24, 3) := dk_153 0 24 (dk_at dksX8_answersIn_2 3 rfl rfl)
theorem dX8_answersIn_52 : decode cX8_answersIn 52 = .ok (.iload_n 2, 1) := dk_28 (dk_at dksX8_answersIn_2 6 rfl rfl)
theorem dX8_answersIn_53 : decode cX8_answersIn 53 = .ok (.iload_n 3, 1) := dk_29 (dk_at dksX8_answersIn_2 7 rfl rfl)
theorem dX8_answersIn_54 : decode cX8_answersIn 54 = .ok (.ishr, 1) := dk_122 (dk_at dksX8_answersIn_2 8 rfl rfl)
theorem dX8_answersIn_55 : decode cX8_answersIn 55 = .ok (.iconst 1, 1) := dk_4 (dk_at dksX8_answersIn_2 9 rfl rfl)
theorem dX8_answersIn_56 : decode cX8_answersIn 56 = .ok (.iand, 1) := dk_126 (dk_at dksX8_answersIn_2 10 rfl rfl)
theorem dX8_answersIn_57 : decode cX8_answersIn 57 = .ok (.iconst 1, 1) := dk_4 (dk_at dksX8_answersIn_2 11 rfl rfl)
theorem dX8_answersIn_58 : decode cX8_answersIn 58 = .ok (.if_icmp .ne 9, 3) := dk_160 0 9 (dk_at dksX8_answersIn_2 12 rfl rfl)
theorem dX8_answersIn_61 : decode cX8_answersIn 61 = .ok (.aload_n 0, 1) := dk_42 (dk_at dksX8_answersIn_2 15 rfl rfl)
theorem dX8_answersIn_62 : decode cX8_answersIn 62 = .ok (.aload_n 1, 1) := dk_43 (dk_at dksX8_answersIn_2 16 rfl rfl)
theorem dX8_answersIn_63 : decode cX8_answersIn 63 = .ok (.iload_n 3, 1) := dk_29 (dk_at dksX8_answersIn_2 17 rfl rfl)
theorem dX8_answersIn_64 : decode cX8_answersIn 64 = .ok (.invokevirtual 55, 3) := dk_182 0 55 (dk_at dksX8_answersIn_2 18 rfl rfl)
theorem dX8_answersIn_67 : decode cX8_answersIn 67 = .ok (.iinc 3 1, 3) := dk_132 3 1 (dk_at dksX8_answersIn_2 21 rfl rfl)
theorem dX8_answersIn_70 : decode cX8_answersIn 70 = .ok (.goto (-31), 3) := dk_167 255 225 (dk_at dksX8_answersIn_3 0 rfl rfl)
theorem dX8_answersIn_73 : decode cX8_answersIn 73 = .ok (.return_, 1) := dk_177 (dk_at dksX8_answersIn_3 3 rfl rfl)
abbrev cX8_meet : ByteArray := prog_4_method_3_code
def yX8_meet : MethodName := ⟨RX8, "meet", "(Ljava/util/List;I)V"⟩
def dkwX8_meet_4 : List UInt8 := [132, 3, 1, 167, 255, 176, 177]
abbrev dktX8_meet_4 : List UInt8 := dkwX8_meet_4 ++ []
def dkwX8_meet_3 : List UInt8 := [21, 4, 46, 42, 180, 0, 47, 180, 0, 84, 42, 180, 0, 25, 180, 0, 88, 50, 29, 46, 184, 0, 91, 79]
abbrev dktX8_meet_3 : List UInt8 := dkwX8_meet_3 ++ dktX8_meet_4
def dkwX8_meet_2 : List UInt8 := [192, 0, 78, 180, 0, 80, 54, 4, 42, 180, 0, 3, 180, 0, 51, 21, 4, 42, 180, 0, 3, 180, 0, 51]
abbrev dktX8_meet_2 : List UInt8 := dkwX8_meet_2 ++ dktX8_meet_3
def dkwX8_meet_1 : List UInt8 := [180, 0, 65, 185, 0, 68, 1, 0, 162, 0, 70, 42, 180, 0, 47, 180, 0, 65, 29, 185, 0, 74, 2, 0]
abbrev dktX8_meet_1 : List UInt8 := dkwX8_meet_1 ++ dktX8_meet_2
def dkwX8_meet_0 : List UInt8 := [42, 180, 0, 47, 43, 28, 182, 0, 59, 42, 180, 0, 47, 182, 0, 62, 3, 62, 29, 42, 180, 0, 47]
abbrev dktX8_meet_0 : List UInt8 := dkwX8_meet_0 ++ dktX8_meet_1
theorem dksX8_meet_0 : cX8_meet.data.toList.drop 0 = dktX8_meet_0 := by decide +kernel
theorem dksX8_meet_1 : cX8_meet.data.toList.drop 23 = dktX8_meet_1 := dk_seg dksX8_meet_0 23 rfl rfl
theorem dksX8_meet_2 : cX8_meet.data.toList.drop 47 = dktX8_meet_2 := dk_seg dksX8_meet_1 24 rfl rfl
theorem dksX8_meet_3 : cX8_meet.data.toList.drop 71 = dktX8_meet_3 := dk_seg dksX8_meet_2 24 rfl rfl
theorem dksX8_meet_4 : cX8_meet.data.toList.drop 95 = dktX8_meet_4 := dk_seg dksX8_meet_3 24 rfl rfl
theorem dX8_meet_0 : decode cX8_meet 0 = .ok (.aload_n 0, 1) := dk_42 (dk_at dksX8_meet_0 0 rfl rfl)
theorem dX8_meet_1 : decode cX8_meet 1 = .ok (.getfield 47, 3) := dk_180 0 47 (dk_at dksX8_meet_0 1 rfl rfl)
theorem dX8_meet_4 : decode cX8_meet 4 = .ok (.aload_n 1, 1) := dk_43 (dk_at dksX8_meet_0 4 rfl rfl)
theorem dX8_meet_5 : decode cX8_meet 5 = .ok (.iload_n 2, 1) := dk_28 (dk_at dksX8_meet_0 5 rfl rfl)
theorem dX8_meet_6 : decode cX8_meet 6 = .ok (.invokevirtual 59, 3) := dk_182 0 59 (dk_at dksX8_meet_0 6 rfl rfl)
theorem dX8_meet_9 : decode cX8_meet 9 = .ok (.aload_n 0, 1) := dk_42 (dk_at dksX8_meet_0 9 rfl rfl)
theorem dX8_meet_10 : decode cX8_meet 10 = .ok (.getfield 47, 3) := dk_180 0 47 (dk_at dksX8_meet_0 10 rfl rfl)
theorem dX8_meet_13 : decode cX8_meet 13 = .ok (.invokevirtual 62, 3) := dk_182 0 62 (dk_at dksX8_meet_0 13 rfl rfl)
theorem dX8_meet_16 : decode cX8_meet 16 = .ok (.iconst 0, 1) := dk_3 (dk_at dksX8_meet_0 16 rfl rfl)
theorem dX8_meet_17 : decode cX8_meet 17 = .ok (.istore_n 3, 1) := dk_62 (dk_at dksX8_meet_0 17 rfl rfl)
theorem dX8_meet_18 : decode cX8_meet 18 = .ok (.iload_n 3, 1) := dk_29 (dk_at dksX8_meet_0 18 rfl rfl)
theorem dX8_meet_19 : decode cX8_meet 19 = .ok (.aload_n 0, 1) := dk_42 (dk_at dksX8_meet_0 19 rfl rfl)
theorem dX8_meet_20 : decode cX8_meet 20 = .ok (.getfield 47, 3) := dk_180 0 47 (dk_at dksX8_meet_0 20 rfl rfl)
theorem dX8_meet_23 : decode cX8_meet 23 = .ok (.getfield 65, 3) := dk_180 0 65 (dk_at dksX8_meet_1 0 rfl rfl)
theorem dX8_meet_26 : decode cX8_meet 26 = .ok (.invokeinterface 68 1, 5) := by decide +kernel
theorem dX8_meet_31 : decode cX8_meet 31 = .ok (.if_icmp .ge 70, 3) := dk_162 0 70 (dk_at dksX8_meet_1 8 rfl rfl)
theorem dX8_meet_34 : decode cX8_meet 34 = .ok (.aload_n 0, 1) := dk_42 (dk_at dksX8_meet_1 11 rfl rfl)
theorem dX8_meet_35 : decode cX8_meet 35 = .ok (.getfield 47, 3) := dk_180 0 47 (dk_at dksX8_meet_1 12 rfl rfl)
theorem dX8_meet_38 : decode cX8_meet 38 = .ok (.getfield 65, 3) := dk_180 0 65 (dk_at dksX8_meet_1 15 rfl rfl)
theorem dX8_meet_41 : decode cX8_meet 41 = .ok (.iload_n 3, 1) := dk_29 (dk_at dksX8_meet_1 18 rfl rfl)
theorem dX8_meet_42 : decode cX8_meet 42 = .ok (.invokeinterface 74 2, 5) := by decide +kernel
theorem dX8_meet_47 : decode cX8_meet 47 = .ok (.checkcast 78, 3) := dk_192 0 78 (dk_at dksX8_meet_2 0 rfl rfl)
theorem dX8_meet_50 : decode cX8_meet 50 = .ok (.getfield 80, 3) := dk_180 0 80 (dk_at dksX8_meet_2 3 rfl rfl)
theorem dX8_meet_53 : decode cX8_meet 53 = .ok (.istore 4, 2) := dk_54 4 (dk_at dksX8_meet_2 6 rfl rfl)
theorem dX8_meet_55 : decode cX8_meet 55 = .ok (.aload_n 0, 1) := dk_42 (dk_at dksX8_meet_2 8 rfl rfl)
theorem dX8_meet_56 : decode cX8_meet 56 = .ok (.getfield 3, 3) := dk_180 0 3 (dk_at dksX8_meet_2 9 rfl rfl)
theorem dX8_meet_59 : decode cX8_meet 59 = .ok (.getfield 51, 3) := dk_180 0 51 (dk_at dksX8_meet_2 12 rfl rfl)
theorem dX8_meet_62 : decode cX8_meet 62 = .ok (.iload 4, 2) := dk_21 4 (dk_at dksX8_meet_2 15 rfl rfl)
theorem dX8_meet_64 : decode cX8_meet 64 = .ok (.aload_n 0, 1) := dk_42 (dk_at dksX8_meet_2 17 rfl rfl)
theorem dX8_meet_65 : decode cX8_meet 65 = .ok (.getfield 3, 3) := dk_180 0 3 (dk_at dksX8_meet_2 18 rfl rfl)
theorem dX8_meet_68 : decode cX8_meet 68 = .ok (.getfield 51, 3) := dk_180 0 51 (dk_at dksX8_meet_2 21 rfl rfl)
theorem dX8_meet_71 : decode cX8_meet 71 = .ok (.iload 4, 2) := dk_21 4 (dk_at dksX8_meet_3 0 rfl rfl)
theorem dX8_meet_73 : decode cX8_meet 73 = .ok (.iaload, 1) := dk_46 (dk_at dksX8_meet_3 2 rfl rfl)
theorem dX8_meet_74 : decode cX8_meet 74 = .ok (.aload_n 0, 1) := dk_42 (dk_at dksX8_meet_3 3 rfl rfl)
theorem dX8_meet_75 : decode cX8_meet 75 = .ok (.getfield 47, 3) := dk_180 0 47 (dk_at dksX8_meet_3 4 rfl rfl)
theorem dX8_meet_78 : decode cX8_meet 78 = .ok (.getfield 84, 3) := dk_180 0 84 (dk_at dksX8_meet_3 7 rfl rfl)
theorem dX8_meet_81 : decode cX8_meet 81 = .ok (.aload_n 0, 1) := dk_42 (dk_at dksX8_meet_3 10 rfl rfl)
theorem dX8_meet_82 : decode cX8_meet 82 = .ok (.getfield 25, 3) := dk_180 0 25 (dk_at dksX8_meet_3 11 rfl rfl)
theorem dX8_meet_85 : decode cX8_meet 85 = .ok (.getfield 88, 3) := dk_180 0 88 (dk_at dksX8_meet_3 14 rfl rfl)
theorem dX8_meet_88 : decode cX8_meet 88 = .ok (.aaload, 1) := dk_50 (dk_at dksX8_meet_3 17 rfl rfl)
theorem dX8_meet_89 : decode cX8_meet 89 = .ok (.iload_n 3, 1) := dk_29 (dk_at dksX8_meet_3 18 rfl rfl)
theorem dX8_meet_90 : decode cX8_meet 90 = .ok (.iaload, 1) := dk_46 (dk_at dksX8_meet_3 19 rfl rfl)
theorem dX8_meet_91 : decode cX8_meet 91 = .ok (.invokestatic 91, 3) := dk_184 0 91 (dk_at dksX8_meet_3 20 rfl rfl)
theorem dX8_meet_94 : decode cX8_meet 94 = .ok (.iastore, 1) := dk_79 (dk_at dksX8_meet_3 23 rfl rfl)
theorem dX8_meet_95 : decode cX8_meet 95 = .ok (.iinc 3 1, 3) := dk_132 3 1 (dk_at dksX8_meet_4 0 rfl rfl)
theorem dX8_meet_98 : decode cX8_meet 98 = .ok (.goto (-80), 3) := dk_167 255 176 (dk_at dksX8_meet_4 3 rfl rfl)
theorem dX8_meet_101 : decode cX8_meet 101 = .ok (.return_, 1) := dk_177 (dk_at dksX8_meet_4 6 rfl rfl)
abbrev cX8_init : ByteArray := prog_4_method_1_code
def yX8_init : MethodName := ⟨RX8, "<init>", "(LLogGrammar;LLogGrammar$Formula;ZZ)V"⟩
def dkwX8_init_2 : List UInt8 := [42, 180, 0, 18, 182, 0, 36, 42, 187, 0, 42, 89, 43, 42, 180, 0, 18, 183, 0, 44, 181, 0, 47, 177]
abbrev dktX8_init_2 : List UInt8 := dkwX8_init_2 ++ []
def dkwX8_init_1 : List UInt8 := [89, 183, 0, 17, 181, 0, 22, 42, 44, 181, 0, 25, 42, 29, 181, 0, 29, 42, 21, 4, 181, 0, 33, 44]
abbrev dktX8_init_1 : List UInt8 := dkwX8_init_1 ++ dktX8_init_2
def dkwX8_init_0 : List UInt8 := [42, 43, 181, 0, 3, 42, 183, 0, 9, 42, 187, 0, 15, 89, 183, 0, 17, 181, 0, 18, 42, 187, 0, 15]
abbrev dktX8_init_0 : List UInt8 := dkwX8_init_0 ++ dktX8_init_1
theorem dksX8_init_0 : cX8_init.data.toList.drop 0 = dktX8_init_0 := by decide +kernel
theorem dksX8_init_1 : cX8_init.data.toList.drop 24 = dktX8_init_1 := dk_seg dksX8_init_0 24 rfl rfl
theorem dksX8_init_2 : cX8_init.data.toList.drop 48 = dktX8_init_2 := dk_seg dksX8_init_1 24 rfl rfl
theorem dX8_init_0 : decode cX8_init 0 = .ok (.aload_n 0, 1) := dk_42 (dk_at dksX8_init_0 0 rfl rfl)
theorem dX8_init_1 : decode cX8_init 1 = .ok (.aload_n 1, 1) := dk_43 (dk_at dksX8_init_0 1 rfl rfl)
theorem dX8_init_2 : decode cX8_init 2 = .ok (.putfield 3, 3) := dk_181 0 3 (dk_at dksX8_init_0 2 rfl rfl)
theorem dX8_init_5 : decode cX8_init 5 = .ok (.aload_n 0, 1) := dk_42 (dk_at dksX8_init_0 5 rfl rfl)
theorem dX8_init_6 : decode cX8_init 6 = .ok (.invokespecial 9, 3) := dk_183 0 9 (dk_at dksX8_init_0 6 rfl rfl)
theorem dX8_init_9 : decode cX8_init 9 = .ok (.aload_n 0, 1) := dk_42 (dk_at dksX8_init_0 9 rfl rfl)
theorem dX8_init_10 : decode cX8_init 10 = .ok (.new 15, 3) := dk_187 0 15 (dk_at dksX8_init_0 10 rfl rfl)
theorem dX8_init_13 : decode cX8_init 13 = .ok (.dup, 1) := dk_89 (dk_at dksX8_init_0 13 rfl rfl)
theorem dX8_init_14 : decode cX8_init 14 = .ok (.invokespecial 17, 3) := dk_183 0 17 (dk_at dksX8_init_0 14 rfl rfl)
theorem dX8_init_17 : decode cX8_init 17 = .ok (.putfield 18, 3) := dk_181 0 18 (dk_at dksX8_init_0 17 rfl rfl)
theorem dX8_init_20 : decode cX8_init 20 = .ok (.aload_n 0, 1) := dk_42 (dk_at dksX8_init_0 20 rfl rfl)
theorem dX8_init_21 : decode cX8_init 21 = .ok (.new 15, 3) := dk_187 0 15 (dk_at dksX8_init_0 21 rfl rfl)
theorem dX8_init_24 : decode cX8_init 24 = .ok (.dup, 1) := dk_89 (dk_at dksX8_init_1 0 rfl rfl)
theorem dX8_init_25 : decode cX8_init 25 = .ok (.invokespecial 17, 3) := dk_183 0 17 (dk_at dksX8_init_1 1 rfl rfl)
theorem dX8_init_28 : decode cX8_init 28 = .ok (.putfield 22, 3) := dk_181 0 22 (dk_at dksX8_init_1 4 rfl rfl)
theorem dX8_init_31 : decode cX8_init 31 = .ok (.aload_n 0, 1) := dk_42 (dk_at dksX8_init_1 7 rfl rfl)
theorem dX8_init_32 : decode cX8_init 32 = .ok (.aload_n 2, 1) := dk_44 (dk_at dksX8_init_1 8 rfl rfl)
theorem dX8_init_33 : decode cX8_init 33 = .ok (.putfield 25, 3) := dk_181 0 25 (dk_at dksX8_init_1 9 rfl rfl)
theorem dX8_init_36 : decode cX8_init 36 = .ok (.aload_n 0, 1) := dk_42 (dk_at dksX8_init_1 12 rfl rfl)
theorem dX8_init_37 : decode cX8_init 37 = .ok (.iload_n 3, 1) := dk_29 (dk_at dksX8_init_1 13 rfl rfl)
theorem dX8_init_38 : decode cX8_init 38 = .ok (.putfield 29, 3) := dk_181 0 29 (dk_at dksX8_init_1 14 rfl rfl)
theorem dX8_init_41 : decode cX8_init 41 = .ok (.aload_n 0, 1) := dk_42 (dk_at dksX8_init_1 17 rfl rfl)
theorem dX8_init_42 : decode cX8_init 42 = .ok (.iload 4, 2) := dk_21 4 (dk_at dksX8_init_1 18 rfl rfl)
theorem dX8_init_44 : decode cX8_init 44 = .ok (.putfield 33, 3) := dk_181 0 33 (dk_at dksX8_init_1 20 rfl rfl)
theorem dX8_init_47 : decode cX8_init 47 = .ok (.aload_n 2, 1) := dk_44 (dk_at dksX8_init_1 23 rfl rfl)
theorem dX8_init_48 : decode cX8_init 48 = .ok (.aload_n 0, 1) := dk_42 (dk_at dksX8_init_2 0 rfl rfl)
theorem dX8_init_49 : decode cX8_init 49 = .ok (.getfield 18, 3) := dk_180 0 18 (dk_at dksX8_init_2 1 rfl rfl)
theorem dX8_init_52 : decode cX8_init 52 = .ok (.invokevirtual 36, 3) := dk_182 0 36 (dk_at dksX8_init_2 4 rfl rfl)
theorem dX8_init_55 : decode cX8_init 55 = .ok (.aload_n 0, 1) := dk_42 (dk_at dksX8_init_2 7 rfl rfl)
theorem dX8_init_56 : decode cX8_init 56 = .ok (.new 42, 3) := dk_187 0 42 (dk_at dksX8_init_2 8 rfl rfl)
theorem dX8_init_59 : decode cX8_init 59 = .ok (.dup, 1) := dk_89 (dk_at dksX8_init_2 11 rfl rfl)
theorem dX8_init_60 : decode cX8_init 60 = .ok (.aload_n 1, 1) := dk_43 (dk_at dksX8_init_2 12 rfl rfl)
theorem dX8_init_61 : decode cX8_init 61 = .ok (.aload_n 0, 1) := dk_42 (dk_at dksX8_init_2 13 rfl rfl)
theorem dX8_init_62 : decode cX8_init 62 = .ok (.getfield 18, 3) := dk_180 0 18 (dk_at dksX8_init_2 14 rfl rfl)
theorem dX8_init_65 : decode cX8_init 65 = .ok (.invokespecial 44, 3) := dk_183 0 44 (dk_at dksX8_init_2 17 rfl rfl)
theorem dX8_init_68 : decode cX8_init 68 = .ok (.putfield 47, 3) := dk_181 0 47 (dk_at dksX8_init_2 20 rfl rfl)
theorem dX8_init_71 : decode cX8_init 71 = .ok (.return_, 1) := dk_177 (dk_at dksX8_init_2 23 rfl rfl)
theorem q107 : (Jvm.Cond.initialized "LogGrammar$Monitor") ∈ lw_all := lw_g (lw_at lw_m1 35 rfl) rfl
theorem q211 : (Jvm.Cond.selects "LogGrammar$Monitor" ({ cls := "java/lang/Object", name := "getClass", desc := "()Ljava/lang/Class;" } : Jvm.MethodName) ({ cls := "java/lang/Object", name := "getClass", desc := "()Ljava/lang/Class;" } : Jvm.MethodName)) ∈ lw_all := lw_g (lw_at lw_m1 139 rfl) rfl
theorem q246 : (Jvm.Cond.fieldLinkNest "LogGrammar$Monitor" (114 : Nat) "LogGrammar" "events" "Ljava/util/List;" "LogGrammar") ∈ lw_tbl := lw_at lw_m1 174 rfl
theorem q249 : (Jvm.Cond.fieldLinkNest "LogGrammar$Monitor" (108 : Nat) "LogGrammar" "log" "Ljava/util/List;" "LogGrammar") ∈ lw_tbl := lw_at lw_m1 177 rfl
theorem q258 : (Jvm.Cond.fieldLinkNest "LogGrammar$Monitor" (51 : Nat) "LogGrammar" "found" "[I" "LogGrammar") ∈ lw_tbl := lw_at lw_m1 186 rfl
theorem q448 : (Jvm.Cond.instanceMethod ({ cls := "LogGrammar$Monitor", name := "answerFor", desc := "(LLogGrammar$Event;Ljava/util/List;Z)I" } : Jvm.MethodName)) ∈ lw_all := lw_g (lw_at lw_m2 136 rfl) rfl
theorem q449 : (Jvm.Cond.selects "LogGrammar$Monitor" ({ cls := "LogGrammar$Monitor", name := "answerFor", desc := "(LLogGrammar$Event;Ljava/util/List;Z)I" } : Jvm.MethodName) ({ cls := "LogGrammar$Monitor", name := "answerFor", desc := "(LLogGrammar$Event;Ljava/util/List;Z)I" } : Jvm.MethodName)) ∈ lw_all := lw_g (lw_at lw_m2 137 rfl) rfl
theorem q450 : (Jvm.Cond.code ({ cls := "LogGrammar$Monitor", name := "answerFor", desc := "(LLogGrammar$Event;Ljava/util/List;Z)I" } : Jvm.MethodName) prog_4_method_4_code (8 : Nat) (Option.some Jvm.ClassFile.FieldType.int)) ∈ lw_all := lw_g (lw_at lw_m2 138 rfl) rfl
theorem q451 : (Jvm.Cond.methodLinkNest "LogGrammar$Monitor" (95 : Nat) ({ cls := "LogGrammar", name := "ids", desc := "()I" } : Jvm.MethodName) "LogGrammar") ∈ lw_tbl := lw_at lw_m2 139 rfl
theorem q456 : (Jvm.Cond.methodLink "LogGrammar$Monitor" (59 : Nat) ({ cls := "LogGrammar$Row", name := "lay", desc := "(Ljava/util/List;I)V" } : Jvm.MethodName)) ∈ lw_all := lw_g (lw_at lw_m2 144 rfl) rfl
theorem q469 : (Jvm.Cond.methodLink "LogGrammar$Monitor" (62 : Nat) ({ cls := "LogGrammar$Row", name := "fill", desc := "()V" } : Jvm.MethodName)) ∈ lw_all := lw_g (lw_at lw_m2 157 rfl) rfl
theorem q528 : (Jvm.Cond.interfaceEntry "LogGrammar$Monitor" (101 : Nat)) ∈ lw_tbl := lw_at lw_m2 216 rfl
theorem q529 : (Jvm.Cond.methodLink "LogGrammar$Monitor" (101 : Nat) ({ cls := "java/util/List", name := "indexOf", desc := "(Ljava/lang/Object;)I" } : Jvm.MethodName)) ∈ lw_all := lw_g (lw_at lw_m2 217 rfl) rfl
theorem q548 : (Jvm.Cond.selects "LogGrammar$Monitor" ({ cls := "java/lang/Object", name := "equals", desc := "(Ljava/lang/Object;)Z" } : Jvm.MethodName) ({ cls := "java/lang/Object", name := "equals", desc := "(Ljava/lang/Object;)Z" } : Jvm.MethodName)) ∈ lw_all := lw_g (lw_at lw_m2 236 rfl) rfl
theorem q581 : (Jvm.Cond.methodLink "LogGrammar$Monitor" (105 : Nat) ({ cls := "LogGrammar$Row", name := "at", desc := "(LLogGrammar$Formula;I)I" } : Jvm.MethodName)) ∈ lw_all := lw_g (lw_at lw_m3 29 rfl) rfl
theorem q582 : (Jvm.Cond.methodLinkNest "LogGrammar$Monitor" (91 : Nat) ({ cls := "LogGrammar", name := "and", desc := "(II)I" } : Jvm.MethodName) "LogGrammar") ∈ lw_tbl := lw_at lw_m3 30 rfl
theorem q783 : (Jvm.Cond.fieldLinkNest "LogGrammar$Monitor" (80 : Nat) "LogGrammar$Event" "number" "I" "LogGrammar") ∈ lw_tbl := lw_at lw_m3 231 rfl
theorem q796 : (Jvm.Cond.fieldLinkNest "LogGrammar$Monitor" (98 : Nat) "LogGrammar$Event" "id" "I" "LogGrammar") ∈ lw_tbl := lw_at lw_m4 4 rfl
theorem q1118 : (Jvm.Cond.instanceMethod ({ cls := "LogGrammar$Monitor", name := "find", desc := "()V" } : Jvm.MethodName)) ∈ lw_all := lw_g (lw_at lw_m5 86 rfl) rfl
theorem q1119 : (Jvm.Cond.selects "LogGrammar$Monitor" ({ cls := "LogGrammar$Monitor", name := "find", desc := "()V" } : Jvm.MethodName) ({ cls := "LogGrammar$Monitor", name := "find", desc := "()V" } : Jvm.MethodName)) ∈ lw_all := lw_g (lw_at lw_m5 87 rfl) rfl
theorem q1120 : (Jvm.Cond.code ({ cls := "LogGrammar$Monitor", name := "find", desc := "()V" } : Jvm.MethodName) prog_4_method_5_code (2 : Nat) (Option.none : Option Jvm.ClassFile.FieldType)) ∈ lw_all := lw_g (lw_at lw_m5 88 rfl) rfl
theorem q1121 : (Jvm.Cond.methodLink "LogGrammar$Monitor" (111 : Nat) ({ cls := "LogGrammar$Monitor", name := "answersIn", desc := "(Ljava/util/List;I)V" } : Jvm.MethodName)) ∈ lw_all := lw_g (lw_at lw_m5 89 rfl) rfl
theorem q1122 : (Jvm.Cond.instanceMethod ({ cls := "LogGrammar$Monitor", name := "answersIn", desc := "(Ljava/util/List;I)V" } : Jvm.MethodName)) ∈ lw_all := lw_g (lw_at lw_m5 90 rfl) rfl
theorem q1123 : (Jvm.Cond.selects "LogGrammar$Monitor" ({ cls := "LogGrammar$Monitor", name := "answersIn", desc := "(Ljava/util/List;I)V" } : Jvm.MethodName) ({ cls := "LogGrammar$Monitor", name := "answersIn", desc := "(Ljava/util/List;I)V" } : Jvm.MethodName)) ∈ lw_all := lw_g (lw_at lw_m5 91 rfl) rfl
theorem q1124 : (Jvm.Cond.code ({ cls := "LogGrammar$Monitor", name := "answersIn", desc := "(Ljava/util/List;I)V" } : Jvm.MethodName) prog_4_method_2_code (4 : Nat) (Option.none : Option Jvm.ClassFile.FieldType)) ∈ lw_all := lw_g (lw_at lw_m5 92 rfl) rfl
theorem q1125 : (Jvm.Cond.methodLink "LogGrammar$Monitor" (55 : Nat) ({ cls := "LogGrammar$Monitor", name := "meet", desc := "(Ljava/util/List;I)V" } : Jvm.MethodName)) ∈ lw_all := lw_g (lw_at lw_m5 93 rfl) rfl
theorem q1126 : (Jvm.Cond.privateMethod ({ cls := "LogGrammar$Monitor", name := "meet", desc := "(Ljava/util/List;I)V" } : Jvm.MethodName)) ∈ lw_tbl := lw_at lw_m5 94 rfl
theorem q1127 : (Jvm.Cond.instanceMethod ({ cls := "LogGrammar$Monitor", name := "meet", desc := "(Ljava/util/List;I)V" } : Jvm.MethodName)) ∈ lw_all := lw_g (lw_at lw_m5 95 rfl) rfl
theorem q1128 : (Jvm.Cond.instantiable "LogGrammar$Monitor" (8 : Nat)) ∈ lw_all := lw_g (lw_at lw_m5 96 rfl) rfl
theorem q1129 : (Jvm.Cond.code ({ cls := "LogGrammar$Monitor", name := "meet", desc := "(Ljava/util/List;I)V" } : Jvm.MethodName) prog_4_method_3_code (5 : Nat) (Option.none : Option Jvm.ClassFile.FieldType)) ∈ lw_all := lw_g (lw_at lw_m5 97 rfl) rfl
theorem q1130 : (Jvm.Cond.interfaceEntry "LogGrammar$Monitor" (68 : Nat)) ∈ lw_tbl := lw_at lw_m5 98 rfl
theorem q1131 : (Jvm.Cond.methodLink "LogGrammar$Monitor" (68 : Nat) ({ cls := "java/util/List", name := "size", desc := "()I" } : Jvm.MethodName)) ∈ lw_all := lw_g (lw_at lw_m5 99 rfl) rfl
theorem q1132 : (Jvm.Cond.interfaceEntry "LogGrammar$Monitor" (74 : Nat)) ∈ lw_tbl := lw_at lw_m5 100 rfl
theorem q1133 : (Jvm.Cond.methodLink "LogGrammar$Monitor" (74 : Nat) ({ cls := "java/util/List", name := "get", desc := "(I)Ljava/lang/Object;" } : Jvm.MethodName)) ∈ lw_all := lw_g (lw_at lw_m5 101 rfl) rfl
theorem q1134 : (Jvm.Cond.classLink "LogGrammar$Monitor" (78 : Nat) "LogGrammar$Event") ∈ lw_all := lw_g (lw_at lw_m5 102 rfl) rfl
theorem q1135 : (Jvm.Cond.classLink "LogGrammar$Monitor" (117 : Nat) "LogGrammar$Pair") ∈ lw_all := lw_g (lw_at lw_m5 103 rfl) rfl
theorem q1137 : (Jvm.Cond.methodLink "LogGrammar$Monitor" (119 : Nat) ({ cls := "java/lang/Integer", name := "valueOf", desc := "(I)Ljava/lang/Integer;" } : Jvm.MethodName)) ∈ lw_all := lw_g (lw_at lw_m5 105 rfl) rfl
theorem q1156 : (Jvm.Cond.methodLink "LogGrammar$Monitor" (125 : Nat) ({ cls := "LogGrammar$Pair", name := "<init>", desc := "(Ljava/lang/Object;Ljava/lang/Object;)V" } : Jvm.MethodName)) ∈ lw_all := lw_g (lw_at lw_m5 124 rfl) rfl
theorem q1161 : (Jvm.Cond.fieldLinkNest "LogGrammar$Monitor" (132 : Nat) "LogGrammar$Pair" "first" "Ljava/lang/Object;" "LogGrammar") ∈ lw_tbl := lw_at lw_m5 129 rfl
theorem q1170 : (Jvm.Cond.interfaceEntry "LogGrammar$Monitor" (128 : Nat)) ∈ lw_tbl := lw_at lw_m5 138 rfl
theorem q1171 : (Jvm.Cond.methodLink "LogGrammar$Monitor" (128 : Nat) ({ cls := "java/util/List", name := "add", desc := "(Ljava/lang/Object;)Z" } : Jvm.MethodName)) ∈ lw_all := lw_g (lw_at lw_m5 139 rfl) rfl
theorem q1172 : (Jvm.Cond.classLink "LogGrammar$Monitor" (120 : Nat) "java/lang/Integer") ∈ lw_all := lw_g (lw_at lw_m5 140 rfl) rfl
theorem q1173 : (Jvm.Cond.methodLink "LogGrammar$Monitor" (136 : Nat) ({ cls := "java/lang/Integer", name := "intValue", desc := "()I" } : Jvm.MethodName)) ∈ lw_all := lw_g (lw_at lw_m5 141 rfl) rfl
theorem q1174 : (Jvm.Cond.interfaceEntry "LogGrammar$Monitor" (142 : Nat)) ∈ lw_tbl := lw_at lw_m5 142 rfl
theorem q1175 : (Jvm.Cond.methodLink "LogGrammar$Monitor" (142 : Nat) ({ cls := "java/util/List", name := "set", desc := "(ILjava/lang/Object;)Ljava/lang/Object;" } : Jvm.MethodName)) ∈ lw_all := lw_g (lw_at lw_m5 143 rfl) rfl
theorem q1262 : (Jvm.Cond.fieldLinkNest "LogGrammar$Monitor" (88 : Nat) "LogGrammar$Formula" "at" "I" "LogGrammar") ∈ lw_tbl := lw_at lw_m5 230 rfl
theorem q1396 : (Jvm.Cond.instanceMethod ({ cls := "LogGrammar$Monitor", name := "<init>", desc := "(LLogGrammar;LLogGrammar$Formula;ZZ)V" } : Jvm.MethodName)) ∈ lw_all := lw_g (lw_at lw_m6 124 rfl) rfl
theorem q1397 : (Jvm.Cond.code ({ cls := "LogGrammar$Monitor", name := "<init>", desc := "(LLogGrammar;LLogGrammar$Formula;ZZ)V" } : Jvm.MethodName) prog_4_method_1_code (5 : Nat) (Option.none : Option Jvm.ClassFile.FieldType)) ∈ lw_all := lw_g (lw_at lw_m6 125 rfl) rfl
theorem q1398 : (Jvm.Cond.methodLink "LogGrammar$Monitor" (9 : Nat) ({ cls := "java/lang/Object", name := "<init>", desc := "()V" } : Jvm.MethodName)) ∈ lw_all := lw_g (lw_at lw_m6 126 rfl) rfl
theorem q1399 : (Jvm.Cond.classLink "LogGrammar$Monitor" (15 : Nat) "java/util/ArrayList") ∈ lw_all := lw_g (lw_at lw_m6 127 rfl) rfl
theorem q1400 : (Jvm.Cond.methodLink "LogGrammar$Monitor" (17 : Nat) ({ cls := "java/util/ArrayList", name := "<init>", desc := "()V" } : Jvm.MethodName)) ∈ lw_all := lw_g (lw_at lw_m6 128 rfl) rfl
theorem q1401 : (Jvm.Cond.methodLink "LogGrammar$Monitor" (36 : Nat) ({ cls := "LogGrammar$Formula", name := "collect", desc := "(Ljava/util/List;)V" } : Jvm.MethodName)) ∈ lw_all := lw_g (lw_at lw_m6 129 rfl) rfl
theorem q1410 : (Jvm.Cond.classLink "LogGrammar$Monitor" (42 : Nat) "LogGrammar$Row") ∈ lw_all := lw_g (lw_at lw_m6 138 rfl) rfl
theorem q1411 : (Jvm.Cond.methodLink "LogGrammar$Monitor" (44 : Nat) ({ cls := "LogGrammar$Row", name := "<init>", desc := "(LLogGrammar;Ljava/util/List;)V" } : Jvm.MethodName)) ∈ lw_all := lw_g (lw_at lw_m6 139 rfl) rfl
theorem q1420 : (Jvm.Cond.fieldLinkNest "LogGrammar$Monitor" (65 : Nat) "LogGrammar$Row" "row" "Ljava/util/List;" "LogGrammar") ∈ lw_tbl := lw_at lw_m6 148 rfl
theorem q1423 : (Jvm.Cond.fieldLinkNest "LogGrammar$Monitor" (84 : Nat) "LogGrammar$Row" "answers" "[[I" "LogGrammar") ∈ lw_tbl := lw_at lw_m6 151 rfl
theorem q1434 : (Jvm.Cond.fieldLink "LogGrammar$Monitor" (25 : Nat) "LogGrammar$Monitor" "formula" "LLogGrammar$Formula;") ∈ lw_all := lw_g (lw_at lw_m6 162 rfl) rfl
theorem q1436 : (Jvm.Cond.fieldLink "LogGrammar$Monitor" (18 : Nat) "LogGrammar$Monitor" "parts" "Ljava/util/List;") ∈ lw_all := lw_g (lw_at lw_m6 164 rfl) rfl
theorem q1438 : (Jvm.Cond.fieldLink "LogGrammar$Monitor" (47 : Nat) "LogGrammar$Monitor" "table" "LLogGrammar$Row;") ∈ lw_all := lw_g (lw_at lw_m6 166 rfl) rfl
theorem q1439 : (Jvm.Cond.fieldLink "LogGrammar$Monitor" (29 : Nat) "LogGrammar$Monitor" "isSliced" "Z") ∈ lw_all := lw_g (lw_at lw_m6 167 rfl) rfl
theorem q1440 : (Jvm.Cond.fieldLink "LogGrammar$Monitor" (33 : Nat) "LogGrammar$Monitor" "isGuard" "Z") ∈ lw_all := lw_g (lw_at lw_m6 168 rfl) rfl
theorem q1442 : (Jvm.Cond.fieldLink "LogGrammar$Monitor" (22 : Nat) "LogGrammar$Monitor" "known" "Ljava/util/List;") ∈ lw_all := lw_g (lw_at lw_m6 170 rfl) rfl
theorem q1444 : (Jvm.Cond.fieldLink "LogGrammar$Monitor" (139 : Nat) "LogGrammar$Monitor" "takenBack" "I") ∈ lw_all := lw_g (lw_at lw_m6 172 rfl) rfl
theorem q1446 : (Jvm.Cond.fieldLink "LogGrammar$Monitor" (3 : Nat) "LogGrammar$Monitor" "this$0" "LLogGrammar;") ∈ lw_all := lw_g (lw_at lw_m6 174 rfl) rfl
theorem q1447 : (Jvm.Cond.laysFinal "LogGrammar$Monitor" "LogGrammar$Monitor" "formula" "LLogGrammar$Formula;") ∈ lw_all := lw_g (lw_at lw_m6 175 rfl) rfl
theorem q1448 : (Jvm.Cond.soleField "LogGrammar$Monitor" "formula") ∈ lw_all := lw_g (lw_at lw_m6 176 rfl) rfl
theorem q1449 : (Jvm.Cond.laysFinal "LogGrammar$Monitor" "LogGrammar$Monitor" "parts" "Ljava/util/List;") ∈ lw_all := lw_g (lw_at lw_m6 177 rfl) rfl
theorem q1450 : (Jvm.Cond.soleField "LogGrammar$Monitor" "parts") ∈ lw_all := lw_g (lw_at lw_m6 178 rfl) rfl
theorem q1451 : (Jvm.Cond.laysFinal "LogGrammar$Monitor" "LogGrammar$Monitor" "table" "LLogGrammar$Row;") ∈ lw_all := lw_g (lw_at lw_m6 179 rfl) rfl
theorem q1452 : (Jvm.Cond.soleField "LogGrammar$Monitor" "table") ∈ lw_all := lw_g (lw_at lw_m6 180 rfl) rfl
theorem q1453 : (Jvm.Cond.laysFinal "LogGrammar$Monitor" "LogGrammar$Monitor" "isSliced" "Z") ∈ lw_all := lw_g (lw_at lw_m6 181 rfl) rfl
theorem q1454 : (Jvm.Cond.soleField "LogGrammar$Monitor" "isSliced") ∈ lw_all := lw_g (lw_at lw_m6 182 rfl) rfl
theorem q1455 : (Jvm.Cond.laysFinal "LogGrammar$Monitor" "LogGrammar$Monitor" "isGuard" "Z") ∈ lw_all := lw_g (lw_at lw_m6 183 rfl) rfl
theorem q1456 : (Jvm.Cond.soleField "LogGrammar$Monitor" "isGuard") ∈ lw_all := lw_g (lw_at lw_m6 184 rfl) rfl
theorem q1457 : (Jvm.Cond.laysFinal "LogGrammar$Monitor" "LogGrammar$Monitor" "known" "Ljava/util/List;") ∈ lw_all := lw_g (lw_at lw_m6 185 rfl) rfl
theorem q1458 : (Jvm.Cond.soleField "LogGrammar$Monitor" "known") ∈ lw_all := lw_g (lw_at lw_m6 186 rfl) rfl
theorem q1459 : (Jvm.Cond.lays "LogGrammar$Monitor" "LogGrammar$Monitor" "takenBack" "I") ∈ lw_all := lw_g (lw_at lw_m6 187 rfl) rfl
theorem q1460 : (Jvm.Cond.soleField "LogGrammar$Monitor" "takenBack") ∈ lw_all := lw_g (lw_at lw_m6 188 rfl) rfl
theorem q1461 : (Jvm.Cond.laysFinal "LogGrammar$Monitor" "LogGrammar$Monitor" "this$0" "LLogGrammar;") ∈ lw_all := lw_g (lw_at lw_m6 189 rfl) rfl
theorem q1462 : (Jvm.Cond.soleField "LogGrammar$Monitor" "this$0") ∈ lw_all := lw_g (lw_at lw_m6 190 rfl) rfl
theorem q1463 : (Jvm.Cond.superclass "LogGrammar$Monitor" "java/lang/Object") ∈ lw_all := lw_g (lw_at lw_m6 191 rfl) rfl
theorem q2172 : (Jvm.Cond.castable "LogGrammar$Monitor" "java/lang/Object") ∈ lw_tbl := lw_at lw_m9 180 rfl
theorem in_X8 : ∀ w ∈ wsX80, w ∈ lw_all := lw_in wsX80 [1447, 1449, 1451, 1453, 1455, 1457, 1459, 1461] (by decide +kernel) (by decide +kernel)
/-! LogGrammar$Row -/
set_option maxRecDepth 100000
def RX9 : String := "LogGrammar$Row"
def TX9 : u_T := fun k => match k with
  | 0 => ("LogGrammar$Row", "row", "Ljava/util/List;", true)
  | 1 => ("LogGrammar$Row", "parts", "Ljava/util/List;", true)
  | 2 => ("LogGrammar$Row", "answers", "[[I", true)
  | _ => ("LogGrammar$Row", "this$0", "LLogGrammar;", true)
def tyX9 : Nat → FieldType := fun k => match k with
  | 0 => .object "java/util/List"
  | 1 => .object "java/util/List"
  | 2 => .array (.array .int)
  | _ => .object "LogGrammar"
abbrev wsX90 : List Cond := u_ws RX9 TX9 4
theorem nmX9 : ∀ a, a < 4 → ∀ b, b < 4 → a ≠ b → (TX9 a).2.1 ≠ (TX9 b).2.1 := by decide +kernel
theorem tyX9_ok : ∀ k, k < 4 → parseFieldDescriptor (TX9 k).2.2.1 = some (tyX9 k) := by decide +kernel
abbrev cX9_lay : ByteArray := prog_7_method_2_code
def yX9_lay : MethodName := ⟨RX9, "lay", "(Ljava/util/List;I)V"⟩
def dkwX9_lay_5 : List UInt8 := [42, 180, 0, 33, 29, 50, 21, 4, 2, 79, 132, 4, 1, 167, 255, 229, 132, 3, 1, 167, 255, 211, 177]
abbrev dktX9_lay_5 : List UInt8 := dkwX9_lay_5 ++ []
def dkwX9_lay_4 : List UInt8 := [180, 0, 33, 190, 162, 0, 42, 3, 54, 4, 21, 4, 42, 180, 0, 18, 185, 0, 25, 1, 0, 162, 0, 19]
abbrev dktX9_lay_4 : List UInt8 := dkwX9_lay_4 ++ dktX9_lay_5
def dkwX9_lay_3 : List UInt8 := [185, 0, 39, 2, 0, 192, 0, 43, 185, 0, 49, 2, 0, 87, 132, 3, 1, 167, 255, 184, 3, 62, 29, 42]
abbrev dktX9_lay_3 : List UInt8 := dkwX9_lay_3 ++ dktX9_lay_4
def dkwX9_lay_2 : List UInt8 := [185, 0, 39, 2, 0, 192, 0, 43, 180, 0, 45, 2, 160, 0, 23, 42, 180, 0, 18, 43, 29]
abbrev dktX9_lay_2 : List UInt8 := dkwX9_lay_2 ++ dktX9_lay_3
def dkwX9_lay_1 : List UInt8 := [159, 0, 37, 43, 29, 185, 0, 39, 2, 0, 192, 0, 43, 180, 0, 45, 28, 159, 0, 20, 43, 29]
abbrev dktX9_lay_1 : List UInt8 := dkwX9_lay_1 ++ dktX9_lay_2
def dkwX9_lay_0 : List UInt8 := [42, 180, 0, 18, 185, 0, 36, 1, 0, 3, 62, 29, 43, 185, 0, 25, 1, 0, 162, 0, 68, 28, 2]
abbrev dktX9_lay_0 : List UInt8 := dkwX9_lay_0 ++ dktX9_lay_1
theorem dksX9_lay_0 : cX9_lay.data.toList.drop 0 = dktX9_lay_0 := by decide +kernel
theorem dksX9_lay_1 : cX9_lay.data.toList.drop 23 = dktX9_lay_1 := dk_seg dksX9_lay_0 23 rfl rfl
theorem dksX9_lay_2 : cX9_lay.data.toList.drop 45 = dktX9_lay_2 := dk_seg dksX9_lay_1 22 rfl rfl
theorem dksX9_lay_3 : cX9_lay.data.toList.drop 66 = dktX9_lay_3 := dk_seg dksX9_lay_2 21 rfl rfl
theorem dksX9_lay_4 : cX9_lay.data.toList.drop 90 = dktX9_lay_4 := dk_seg dksX9_lay_3 24 rfl rfl
theorem dksX9_lay_5 : cX9_lay.data.toList.drop 114 = dktX9_lay_5 := dk_seg dksX9_lay_4 24 rfl rfl
theorem dX9_lay_0 : decode cX9_lay 0 = .ok (.aload_n 0, 1) := dk_42 (dk_at dksX9_lay_0 0 rfl rfl)
theorem dX9_lay_1 : decode cX9_lay 1 = .ok (.getfield 18, 3) := dk_180 0 18 (dk_at dksX9_lay_0 1 rfl rfl)
theorem dX9_lay_4 : decode cX9_lay 4 = .ok (.invokeinterface 36 1, 5) := by decide +kernel
theorem dX9_lay_9 : decode cX9_lay 9 = .ok (.iconst 0, 1) := dk_3 (dk_at dksX9_lay_0 9 rfl rfl)
theorem dX9_lay_10 : decode cX9_lay 10 = .ok (.istore_n 3, 1) := dk_62 (dk_at dksX9_lay_0 10 rfl rfl)
theorem dX9_lay_11 : decode cX9_lay 11 = .ok (.iload_n 3, 1) := dk_29 (dk_at dksX9_lay_0 11 rfl rfl)
theorem dX9_lay_12 : decode cX9_lay 12 = .ok (.aload_n 1, 1) := dk_43 (dk_at dksX9_lay_0 12 rfl rfl)
theorem dX9_lay_13 : decode cX9_lay 13 = .ok (.invokeinterface 25 1, 5) := by decide +kernel
theorem dX9_lay_18 : decode cX9_lay 18 = .ok (.if_icmp .ge 68, 3) := dk_162 0 68 (dk_at dksX9_lay_0 18 rfl rfl)
theorem dX9_lay_21 : decode cX9_lay 21 = .ok (.iload_n 2, 1) := dk_28 (dk_at dksX9_lay_0 21 rfl rfl)
theorem dX9_lay_22 : decode cX9_lay 22 = .ok (.iconst (-1), 1) := dk_2 (dk_at dksX9_lay_0 22 rfl rfl)
theorem dX9_lay_23 : decode cX9_lay 23 = .ok (.if_icmp .eq 37, 3) := dk_159 0 37 (dk_at dksX9_lay_1 0 rfl rfl)
theorem dX9_lay_26 : decode cX9_lay 26 = .ok (.aload_n 1, 1) := dk_43 (dk_at dksX9_lay_1 3 rfl rfl)
theorem dX9_lay_27 : decode cX9_lay 27 = .ok (.iload_n 3, 1) := dk_29 (dk_at dksX9_lay_1 4 rfl rfl)
theorem dX9_lay_28 : decode cX9_lay 28 = .ok (.invokeinterface 39 2, 5) := by decide +kernel
theorem dX9_lay_33 : decode cX9_lay 33 = .ok (.checkcast 43, 3) := dk_192 0 43 (dk_at dksX9_lay_1 10 rfl rfl)
theorem dX9_lay_36 : decode cX9_lay 36 = .ok (.getfield 45, 3) := dk_180 0 45 (dk_at dksX9_lay_1 13 rfl rfl)
theorem dX9_lay_39 : decode cX9_lay 39 = .ok (.iload_n 2, 1) := dk_28 (dk_at dksX9_lay_1 16 rfl rfl)
theorem dX9_lay_40 : decode cX9_lay 40 = .ok (.if_icmp .eq 20, 3) := dk_159 0 20 (dk_at dksX9_lay_1 17 rfl rfl)
theorem dX9_lay_43 : decode cX9_lay 43 = .ok (.aload_n 1, 1) := dk_43 (dk_at dksX9_lay_1 20 rfl rfl)
theorem dX9_lay_44 : decode cX9_lay 44 = .ok (.iload_n 3, 1) := dk_29 (dk_at dksX9_lay_1 21 rfl rfl)
theorem dX9_lay_45 : decode cX9_lay 45 = .ok (.invokeinterface 39 2, 5) := by decide +kernel
theorem dX9_lay_50 : decode cX9_lay 50 = .ok (.checkcast 43, 3) := dk_192 0 43 (dk_at dksX9_lay_2 5 rfl rfl)
theorem dX9_lay_53 : decode cX9_lay 53 = .ok (.getfield 45, 3) := dk_180 0 45 (dk_at dksX9_lay_2 8 rfl rfl)
theorem dX9_lay_56 : decode cX9_lay 56 = .ok (.iconst (-1), 1) := dk_2 (dk_at dksX9_lay_2 11 rfl rfl)
theorem dX9_lay_57 : decode cX9_lay 57 = .ok (.if_icmp .ne 23, 3) := dk_160 0 23 (dk_at dksX9_lay_2 12 rfl rfl)
theorem dX9_lay_60 : decode cX9_lay 60 = .ok (.aload_n 0, 1) := dk_42 (dk_at dksX9_lay_2 15 rfl rfl)
theorem dX9_lay_61 : decode cX9_lay 61 = .ok (.getfield 18, 3) := dk_180 0 18 (dk_at dksX9_lay_2 16 rfl rfl)
theorem dX9_lay_64 : decode cX9_lay 64 = .ok (.aload_n 1, 1) := dk_43 (dk_at dksX9_lay_2 19 rfl rfl)
theorem dX9_lay_65 : decode cX9_lay 65 = .ok (.iload_n 3, 1) := dk_29 (dk_at dksX9_lay_2 20 rfl rfl)
theorem dX9_lay_66 : decode cX9_lay 66 = .ok (.invokeinterface 39 2, 5) := by decide +kernel
theorem dX9_lay_71 : decode cX9_lay 71 = .ok (.checkcast 43, 3) := dk_192 0 43 (dk_at dksX9_lay_3 5 rfl rfl)
theorem dX9_lay_74 : decode cX9_lay 74 = .ok (.invokeinterface 49 2, 5) := by decide +kernel
theorem dX9_lay_79 : decode cX9_lay 79 = .ok (.pop, 1) := dk_87 (dk_at dksX9_lay_3 13 rfl rfl)
theorem dX9_lay_80 : decode cX9_lay 80 = .ok (.iinc 3 1, 3) := dk_132 3 1 (dk_at dksX9_lay_3 14 rfl rfl)
theorem dX9_lay_83 : decode cX9_lay 83 = .ok (.goto (-72), 3) := dk_167 255 184 (dk_at dksX9_lay_3 17 rfl rfl)
theorem dX9_lay_86 : decode cX9_lay 86 = .ok (.iconst 0, 1) := dk_3 (dk_at dksX9_lay_3 20 rfl rfl)
theorem dX9_lay_87 : decode cX9_lay 87 = .ok (.istore_n 3, 1) := dk_62 (dk_at dksX9_lay_3 21 rfl rfl)
theorem dX9_lay_88 : decode cX9_lay 88 = .ok (.iload_n 3, 1) := dk_29 (dk_at dksX9_lay_3 22 rfl rfl)
theorem dX9_lay_89 : decode cX9_lay 89 = .ok (.aload_n 0, 1) := dk_42 (dk_at dksX9_lay_3 23 rfl rfl)
theorem dX9_lay_90 : decode cX9_lay 90 = .ok (.getfield 33, 3) := dk_180 0 33 (dk_at dksX9_lay_4 0 rfl rfl)
theorem dX9_lay_93 : decode cX9_lay 93 = .ok (.arraylength, 1) := dk_190 (dk_at dksX9_lay_4 3 rfl rfl)
theorem dX9_lay_94 : decode cX9_lay 94 = .ok (.if_icmp .ge 42, 3) := dk_162 0 42 (dk_at dksX9_lay_4 4 rfl rfl)
theorem dX9_lay_97 : decode cX9_lay 97 = .ok (.iconst 0, 1) := dk_3 (dk_at dksX9_lay_4 7 rfl rfl)
theorem dX9_lay_98 : decode cX9_lay 98 = .ok (.istore 4, 2) := dk_54 4 (dk_at dksX9_lay_4 8 rfl rfl)
theorem dX9_lay_100 : decode cX9_lay 100 = .ok (.iload 4, 2) := dk_21 4 (dk_at dksX9_lay_4 10 rfl rfl)
theorem dX9_lay_102 : decode cX9_lay 102 = .ok (.aload_n 0, 1) := dk_42 (dk_at dksX9_lay_4 12 rfl rfl)
theorem dX9_lay_103 : decode cX9_lay 103 = .ok (.getfield 18, 3) := dk_180 0 18 (dk_at dksX9_lay_4 13 rfl rfl)
theorem dX9_lay_106 : decode cX9_lay 106 = .ok (.invokeinterface 25 1, 5) := by decide +kernel
theorem dX9_lay_111 : decode cX9_lay 111 = .ok (.if_icmp .ge 19, 3) := dk_162 0 19 (dk_at dksX9_lay_4 21 rfl rfl)
theorem dX9_lay_114 : decode cX9_lay 114 = .ok (.aload_n 0, 1) := dk_42 (dk_at dksX9_lay_5 0 rfl rfl)
theorem dX9_lay_115 : decode cX9_lay 115 = .ok (.getfield 33, 3) := dk_180 0 33 (dk_at dksX9_lay_5 1 rfl rfl)
theorem dX9_lay_118 : decode cX9_lay 118 = .ok (.iload_n 3, 1) := dk_29 (dk_at dksX9_lay_5 4 rfl rfl)
theorem dX9_lay_119 : decode cX9_lay 119 = .ok (.aaload, 1) := dk_50 (dk_at dksX9_lay_5 5 rfl rfl)
theorem dX9_lay_120 : decode cX9_lay 120 = .ok (.iload 4, 2) := dk_21 4 (dk_at dksX9_lay_5 6 rfl rfl)
theorem dX9_lay_122 : decode cX9_lay 122 = .ok (.iconst (-1), 1) := dk_2 (dk_at dksX9_lay_5 8 rfl rfl)
theorem dX9_lay_123 : decode cX9_lay 123 = .ok (.iastore, 1) := dk_79 (dk_at dksX9_lay_5 9 rfl rfl)
theorem dX9_lay_124 : decode cX9_lay 124 = .ok (.iinc 4 1, 3) := dk_132 4 1 (dk_at dksX9_lay_5 10 rfl rfl)
theorem dX9_lay_127 : decode cX9_lay 127 = .ok (.goto (-27), 3) := dk_167 255 229 (dk_at dksX9_lay_5 13 rfl rfl)
theorem dX9_lay_130 : decode cX9_lay 130 = .ok (.iinc 3 1, 3) := dk_132 3 1 (dk_at dksX9_lay_5 16 rfl rfl)
theorem dX9_lay_133 : decode cX9_lay 133 = .ok (.goto (-45), 3) := dk_167 255 211 (dk_at dksX9_lay_5 19 rfl rfl)
theorem dX9_lay_136 : decode cX9_lay 136 = .ok (.return_, 1) := dk_177 (dk_at dksX9_lay_5 22 rfl rfl)
abbrev cX9_fill : ByteArray := prog_7_method_3_code
def yX9_fill : MethodName := ⟨RX9, "fill", "()V"⟩
def dkwX9_fill_3 : List UInt8 := [132, 1, 1, 167, 255, 188, 177]
abbrev dktX9_fill_3 : List UInt8 := dkwX9_fill_3 ++ []
def dkwX9_fill_2 : List UInt8 := [42, 180, 0, 33, 44, 180, 0, 55, 50, 29, 42, 44, 29, 182, 0, 58, 79, 132, 3, 1, 167, 255, 223]
abbrev dktX9_fill_2 : List UInt8 := dkwX9_fill_2 ++ dktX9_fill_3
def dkwX9_fill_1 : List UInt8 := [185, 0, 39, 2, 0, 192, 0, 53, 77, 3, 62, 29, 42, 180, 0, 18, 185, 0, 25, 1, 0, 162, 0, 26]
abbrev dktX9_fill_1 : List UInt8 := dkwX9_fill_1 ++ dktX9_fill_2
def dkwX9_fill_0 : List UInt8 := [3, 60, 27, 42, 180, 0, 22, 185, 0, 25, 1, 0, 162, 0, 61, 42, 180, 0, 22, 27]
abbrev dktX9_fill_0 : List UInt8 := dkwX9_fill_0 ++ dktX9_fill_1
theorem dksX9_fill_0 : cX9_fill.data.toList.drop 0 = dktX9_fill_0 := by decide +kernel
theorem dksX9_fill_1 : cX9_fill.data.toList.drop 20 = dktX9_fill_1 := dk_seg dksX9_fill_0 20 rfl rfl
theorem dksX9_fill_2 : cX9_fill.data.toList.drop 44 = dktX9_fill_2 := dk_seg dksX9_fill_1 24 rfl rfl
theorem dksX9_fill_3 : cX9_fill.data.toList.drop 67 = dktX9_fill_3 := dk_seg dksX9_fill_2 23 rfl rfl
theorem dX9_fill_0 : decode cX9_fill 0 = .ok (.iconst 0, 1) := dk_3 (dk_at dksX9_fill_0 0 rfl rfl)
theorem dX9_fill_1 : decode cX9_fill 1 = .ok (.istore_n 1, 1) := dk_60 (dk_at dksX9_fill_0 1 rfl rfl)
theorem dX9_fill_2 : decode cX9_fill 2 = .ok (.iload_n 1, 1) := dk_27 (dk_at dksX9_fill_0 2 rfl rfl)
theorem dX9_fill_3 : decode cX9_fill 3 = .ok (.aload_n 0, 1) := dk_42 (dk_at dksX9_fill_0 3 rfl rfl)
theorem dX9_fill_4 : decode cX9_fill 4 = .ok (.getfield 22, 3) := dk_180 0 22 (dk_at dksX9_fill_0 4 rfl rfl)
theorem dX9_fill_7 : decode cX9_fill 7 = .ok (.invokeinterface 25 1, 5) := by decide +kernel
theorem dX9_fill_12 : decode cX9_fill 12 = .ok (.if_icmp .ge 61, 3) := dk_162 0 61 (dk_at dksX9_fill_0 12 rfl rfl)
theorem dX9_fill_15 : decode cX9_fill 15 = .ok (.aload_n 0, 1) := dk_42 (dk_at dksX9_fill_0 15 rfl rfl)
theorem dX9_fill_16 : decode cX9_fill 16 = .ok (.getfield 22, 3) := dk_180 0 22 (dk_at dksX9_fill_0 16 rfl rfl)
theorem dX9_fill_19 : decode cX9_fill 19 = .ok (.iload_n 1, 1) := dk_27 (dk_at dksX9_fill_0 19 rfl rfl)
theorem dX9_fill_20 : decode cX9_fill 20 = .ok (.invokeinterface 39 2, 5) := by decide +kernel
theorem dX9_fill_25 : decode cX9_fill 25 = .ok (.checkcast 53, 3) := dk_192 0 53 (dk_at dksX9_fill_1 5 rfl rfl)
theorem dX9_fill_28 : decode cX9_fill 28 = .ok (.astore_n 2, 1) := dk_77 (dk_at dksX9_fill_1 8 rfl rfl)
theorem dX9_fill_29 : decode cX9_fill 29 = .ok (.iconst 0, 1) := dk_3 (dk_at dksX9_fill_1 9 rfl rfl)
theorem dX9_fill_30 : decode cX9_fill 30 = .ok (.istore_n 3, 1) := dk_62 (dk_at dksX9_fill_1 10 rfl rfl)
theorem dX9_fill_31 : decode cX9_fill 31 = .ok (.iload_n 3, 1) := dk_29 (dk_at dksX9_fill_1 11 rfl rfl)
theorem dX9_fill_32 : decode cX9_fill 32 = .ok (.aload_n 0, 1) := dk_42 (dk_at dksX9_fill_1 12 rfl rfl)
theorem dX9_fill_33 : decode cX9_fill 33 = .ok (.getfield 18, 3) := dk_180 0 18 (dk_at dksX9_fill_1 13 rfl rfl)
theorem dX9_fill_36 : decode cX9_fill 36 = .ok (.invokeinterface 25 1, 5) := by decide +kernel
theorem dX9_fill_41 : decode cX9_fill 41 = .ok (.if_icmp .ge 26, 3) := dk_162 0 26 (dk_at dksX9_fill_1 21 rfl rfl)
theorem dX9_fill_44 : decode cX9_fill 44 = .ok (.aload_n 0, 1) := dk_42 (dk_at dksX9_fill_2 0 rfl rfl)
theorem dX9_fill_45 : decode cX9_fill 45 = .ok (.getfield 33, 3) := dk_180 0 33 (dk_at dksX9_fill_2 1 rfl rfl)
theorem dX9_fill_48 : decode cX9_fill 48 = .ok (.aload_n 2, 1) := dk_44 (dk_at dksX9_fill_2 4 rfl rfl)
theorem dX9_fill_49 : decode cX9_fill 49 = .ok (.getfield 55, 3) := dk_180 0 55 (dk_at dksX9_fill_2 5 rfl rfl)
theorem dX9_fill_52 : decode cX9_fill 52 = .ok (.aaload, 1) := dk_50 (dk_at dksX9_fill_2 8 rfl rfl)
theorem dX9_fill_53 : decode cX9_fill 53 = .ok (.iload_n 3, 1) := dk_29 (dk_at dksX9_fill_2 9 rfl rfl)
theorem dX9_fill_54 : decode cX9_fill 54 = .ok (.aload_n 0, 1) := dk_42 (dk_at dksX9_fill_2 10 rfl rfl)
theorem dX9_fill_55 : decode cX9_fill 55 = .ok (.aload_n 2, 1) := dk_44 (dk_at dksX9_fill_2 11 rfl rfl)
theorem dX9_fill_56 : decode cX9_fill 56 = .ok (.iload_n 3, 1) := dk_29 (dk_at dksX9_fill_2 12 rfl rfl)
theorem dX9_fill_57 : decode cX9_fill 57 = .ok (.invokevirtual 58, 3) := dk_182 0 58 (dk_at dksX9_fill_2 13 rfl rfl)
theorem dX9_fill_60 : decode cX9_fill 60 = .ok (.iastore, 1) := dk_79 (dk_at dksX9_fill_2 16 rfl rfl)
theorem dX9_fill_61 : decode cX9_fill 61 = .ok (.iinc 3 1, 3) := dk_132 3 1 (dk_at dksX9_fill_2 17 rfl rfl)
theorem dX9_fill_64 : decode cX9_fill 64 = .ok (.goto (-33), 3) := dk_167 255 223 (dk_at dksX9_fill_2 20 rfl rfl)
theorem dX9_fill_67 : decode cX9_fill 67 = .ok (.iinc 1 1, 3) := dk_132 1 1 (dk_at dksX9_fill_3 0 rfl rfl)
theorem dX9_fill_70 : decode cX9_fill 70 = .ok (.goto (-68), 3) := dk_167 255 188 (dk_at dksX9_fill_3 3 rfl rfl)
theorem dX9_fill_73 : decode cX9_fill 73 = .ok (.return_, 1) := dk_177 (dk_at dksX9_fill_3 6 rfl rfl)
abbrev cX9_answer : ByteArray := prog_7_method_7_code
def yX9_answer : MethodName := ⟨RX9, "answer", "(LLogGrammar$Formula;I)I"⟩
def dkwX9_answer_11 : List UInt8 := [182, 0, 129, 172]
abbrev dktX9_answer_11 : List UInt8 := dkwX9_answer_11 ++ []
def dkwX9_answer_10 : List UInt8 := [167, 0, 4, 3, 172, 42, 43, 28, 182, 0, 123, 172, 42, 43, 28, 182, 0, 126, 172, 42, 43, 28]
abbrev dktX9_answer_10 : List UInt8 := dkwX9_answer_10 ++ dktX9_answer_11
def dkwX9_answer_9 : List UInt8 := [180, 0, 104, 28, 4, 96, 182, 0, 108, 167, 0, 18, 42, 180, 0, 3, 180, 0, 71, 153, 0, 7, 5]
abbrev dktX9_answer_9 : List UInt8 := dkwX9_answer_9 ++ dktX9_answer_10
def dkwX9_answer_8 : List UInt8 := [28, 4, 100, 182, 0, 108, 172, 28, 4, 96, 42, 180, 0, 18, 185, 0, 25, 1, 0, 162, 0, 17, 42, 43]
abbrev dktX9_answer_8 : List UInt8 := dkwX9_answer_8 ++ dktX9_answer_9
def dkwX9_answer_7 : List UInt8 := [180, 0, 113, 28, 182, 0, 108, 184, 0, 120, 172, 28, 154, 0, 7, 3, 167, 0, 14, 42, 43, 180, 0, 104]
abbrev dktX9_answer_7 : List UInt8 := dkwX9_answer_7 ++ dktX9_answer_8
def dkwX9_answer_6 : List UInt8 := [180, 0, 113, 28, 182, 0, 108, 184, 0, 116, 172, 42, 43, 180, 0, 104, 28, 182, 0, 108, 42, 43]
abbrev dktX9_answer_6 : List UInt8 := dkwX9_answer_6 ++ dktX9_answer_7
def dkwX9_answer_5 : List UInt8 := [180, 0, 104, 28, 182, 0, 108, 184, 0, 110, 172, 42, 43, 180, 0, 104, 28, 182, 0, 108, 42, 43]
abbrev dktX9_answer_5 : List UInt8 := dkwX9_answer_5 ++ dktX9_answer_6
def dkwX9_answer_4 : List UInt8 := [180, 0, 96, 100, 184, 0, 99, 96, 43, 180, 0, 90, 160, 0, 7, 4, 167, 0, 4, 3, 172, 42, 43]
abbrev dktX9_answer_4 : List UInt8 := dkwX9_answer_4 ++ dktX9_answer_5
def dkwX9_answer_3 : List UInt8 := [167, 0, 4, 3, 172, 4, 42, 180, 0, 18, 28, 185, 0, 39, 2, 0, 192, 0, 43, 180, 0, 93, 43]
abbrev dktX9_answer_3 : List UInt8 := dkwX9_answer_3 ++ dktX9_answer_4
def dkwX9_answer_2 : List UInt8 := [42, 180, 0, 18, 28, 185, 0, 39, 2, 0, 192, 0, 43, 180, 0, 87, 43, 180, 0, 90, 160, 0, 7, 4]
abbrev dktX9_answer_2 : List UInt8 := dkwX9_answer_2 ++ dktX9_answer_3
def dkwX9_answer_1 : List UInt8 := [170, 0, 0, 1, 9, 0, 0, 0, 0, 0, 0, 0, 11, 0, 0, 0, 61, 0, 0, 0, 90, 0, 0, 0, 129, 0, 0, 0, 142, 0, 0, 0, 164, 0, 0, 0, 186, 0, 0, 0, 251, 0, 0, 0, 251, 0, 0, 0, 206, 0, 0, 1, 9, 0, 0, 1, 9, 0, 0, 1, 2]
abbrev dktX9_answer_1 : List UInt8 := dkwX9_answer_1 ++ dktX9_answer_2
def dkwX9_answer_0 : List UInt8 := [43, 180, 0, 78, 182, 0, 82]
abbrev dktX9_answer_0 : List UInt8 := dkwX9_answer_0 ++ dktX9_answer_1
theorem dksX9_answer_0 : cX9_answer.data.toList.drop 0 = dktX9_answer_0 := by decide +kernel
theorem dksX9_answer_1 : cX9_answer.data.toList.drop 7 = dktX9_answer_1 := dk_seg dksX9_answer_0 7 rfl rfl
theorem dksX9_answer_2 : cX9_answer.data.toList.drop 68 = dktX9_answer_2 := dk_seg dksX9_answer_1 61 rfl rfl
theorem dksX9_answer_3 : cX9_answer.data.toList.drop 92 = dktX9_answer_3 := dk_seg dksX9_answer_2 24 rfl rfl
theorem dksX9_answer_4 : cX9_answer.data.toList.drop 115 = dktX9_answer_4 := dk_seg dksX9_answer_3 23 rfl rfl
theorem dksX9_answer_5 : cX9_answer.data.toList.drop 138 = dktX9_answer_5 := dk_seg dksX9_answer_4 23 rfl rfl
theorem dksX9_answer_6 : cX9_answer.data.toList.drop 160 = dktX9_answer_6 := dk_seg dksX9_answer_5 22 rfl rfl
theorem dksX9_answer_7 : cX9_answer.data.toList.drop 182 = dktX9_answer_7 := dk_seg dksX9_answer_6 22 rfl rfl
theorem dksX9_answer_8 : cX9_answer.data.toList.drop 206 = dktX9_answer_8 := dk_seg dksX9_answer_7 24 rfl rfl
theorem dksX9_answer_9 : cX9_answer.data.toList.drop 230 = dktX9_answer_9 := dk_seg dksX9_answer_8 24 rfl rfl
theorem dksX9_answer_10 : cX9_answer.data.toList.drop 253 = dktX9_answer_10 := dk_seg dksX9_answer_9 23 rfl rfl
theorem dksX9_answer_11 : cX9_answer.data.toList.drop 275 = dktX9_answer_11 := dk_seg dksX9_answer_10 22 rfl rfl
theorem dX9_answer_0 : decode cX9_answer 0 = .ok (.aload_n 1, 1) := dk_43 (dk_at dksX9_answer_0 0 rfl rfl)
theorem dX9_answer_1 : decode cX9_answer 1 = .ok (.getfield 78, 3) := dk_180 0 78 (dk_at dksX9_answer_0 1 rfl rfl)
theorem dX9_answer_4 : decode cX9_answer 4 = .ok (.invokevirtual 82, 3) := dk_182 0 82 (dk_at dksX9_answer_0 4 rfl rfl)
theorem dX9_answer_7 : decode cX9_answer 7 = .ok (.tableswitch 265 0 11 #[61, 90, 129, 142, 164, 186, 251, 251, 206, 265, 265, 258], 61) := by decide +kernel
theorem dX9_answer_68 : decode cX9_answer 68 = .ok (.aload_n 0, 1) := dk_42 (dk_at dksX9_answer_2 0 rfl rfl)
theorem dX9_answer_69 : decode cX9_answer 69 = .ok (.getfield 18, 3) := dk_180 0 18 (dk_at dksX9_answer_2 1 rfl rfl)
theorem dX9_answer_72 : decode cX9_answer 72 = .ok (.iload_n 2, 1) := dk_28 (dk_at dksX9_answer_2 4 rfl rfl)
theorem dX9_answer_73 : decode cX9_answer 73 = .ok (.invokeinterface 39 2, 5) := by decide +kernel
theorem dX9_answer_78 : decode cX9_answer 78 = .ok (.checkcast 43, 3) := dk_192 0 43 (dk_at dksX9_answer_2 10 rfl rfl)
theorem dX9_answer_81 : decode cX9_answer 81 = .ok (.getfield 87, 3) := dk_180 0 87 (dk_at dksX9_answer_2 13 rfl rfl)
theorem dX9_answer_84 : decode cX9_answer 84 = .ok (.aload_n 1, 1) := dk_43 (dk_at dksX9_answer_2 16 rfl rfl)
theorem dX9_answer_85 : decode cX9_answer 85 = .ok (.getfield 90, 3) := dk_180 0 90 (dk_at dksX9_answer_2 17 rfl rfl)
theorem dX9_answer_88 : decode cX9_answer 88 = .ok (.if_icmp .ne 7, 3) := dk_160 0 7 (dk_at dksX9_answer_2 20 rfl rfl)
theorem dX9_answer_91 : decode cX9_answer 91 = .ok (.iconst 1, 1) := dk_4 (dk_at dksX9_answer_2 23 rfl rfl)
theorem dX9_answer_92 : decode cX9_answer 92 = .ok (.goto 4, 3) := dk_167 0 4 (dk_at dksX9_answer_3 0 rfl rfl)
theorem dX9_answer_95 : decode cX9_answer 95 = .ok (.iconst 0, 1) := dk_3 (dk_at dksX9_answer_3 3 rfl rfl)
theorem dX9_answer_96 : decode cX9_answer 96 = .ok (.ireturn, 1) := dk_172 (dk_at dksX9_answer_3 4 rfl rfl)
theorem dX9_answer_97 : decode cX9_answer 97 = .ok (.iconst 1, 1) := dk_4 (dk_at dksX9_answer_3 5 rfl rfl)
theorem dX9_answer_98 : decode cX9_answer 98 = .ok (.aload_n 0, 1) := dk_42 (dk_at dksX9_answer_3 6 rfl rfl)
theorem dX9_answer_99 : decode cX9_answer 99 = .ok (.getfield 18, 3) := dk_180 0 18 (dk_at dksX9_answer_3 7 rfl rfl)
theorem dX9_answer_102 : decode cX9_answer 102 = .ok (.iload_n 2, 1) := dk_28 (dk_at dksX9_answer_3 10 rfl rfl)
theorem dX9_answer_103 : decode cX9_answer 103 = .ok (.invokeinterface 39 2, 5) := by decide +kernel
theorem dX9_answer_108 : decode cX9_answer 108 = .ok (.checkcast 43, 3) := dk_192 0 43 (dk_at dksX9_answer_3 16 rfl rfl)
theorem dX9_answer_111 : decode cX9_answer 111 = .ok (.getfield 93, 3) := dk_180 0 93 (dk_at dksX9_answer_3 19 rfl rfl)
theorem dX9_answer_114 : decode cX9_answer 114 = .ok (.aload_n 1, 1) := dk_43 (dk_at dksX9_answer_3 22 rfl rfl)
theorem dX9_answer_115 : decode cX9_answer 115 = .ok (.getfield 96, 3) := dk_180 0 96 (dk_at dksX9_answer_4 0 rfl rfl)
theorem dX9_answer_118 : decode cX9_answer 118 = .ok (.isub, 1) := dk_100 (dk_at dksX9_answer_4 3 rfl rfl)
theorem dX9_answer_119 : decode cX9_answer 119 = .ok (.invokestatic 99, 3) := dk_184 0 99 (dk_at dksX9_answer_4 4 rfl rfl)
theorem dX9_answer_122 : decode cX9_answer 122 = .ok (.iadd, 1) := dk_96 (dk_at dksX9_answer_4 7 rfl rfl)
theorem dX9_answer_123 : decode cX9_answer 123 = .ok (.aload_n 1, 1) := dk_43 (dk_at dksX9_answer_4 8 rfl rfl)
theorem dX9_answer_124 : decode cX9_answer 124 = .ok (.getfield 90, 3) := dk_180 0 90 (dk_at dksX9_answer_4 9 rfl rfl)
theorem dX9_answer_127 : decode cX9_answer 127 = .ok (.if_icmp .ne 7, 3) := dk_160 0 7 (dk_at dksX9_answer_4 12 rfl rfl)
theorem dX9_answer_130 : decode cX9_answer 130 = .ok (.iconst 1, 1) := dk_4 (dk_at dksX9_answer_4 15 rfl rfl)
theorem dX9_answer_131 : decode cX9_answer 131 = .ok (.goto 4, 3) := dk_167 0 4 (dk_at dksX9_answer_4 16 rfl rfl)
theorem dX9_answer_134 : decode cX9_answer 134 = .ok (.iconst 0, 1) := dk_3 (dk_at dksX9_answer_4 19 rfl rfl)
theorem dX9_answer_135 : decode cX9_answer 135 = .ok (.ireturn, 1) := dk_172 (dk_at dksX9_answer_4 20 rfl rfl)
theorem dX9_answer_136 : decode cX9_answer 136 = .ok (.aload_n 0, 1) := dk_42 (dk_at dksX9_answer_4 21 rfl rfl)
theorem dX9_answer_137 : decode cX9_answer 137 = .ok (.aload_n 1, 1) := dk_43 (dk_at dksX9_answer_4 22 rfl rfl)
theorem dX9_answer_138 : decode cX9_answer 138 = .ok (.getfield 104, 3) := dk_180 0 104 (dk_at dksX9_answer_5 0 rfl rfl)
theorem dX9_answer_141 : decode cX9_answer 141 = .ok (.iload_n 2, 1) := dk_28 (dk_at dksX9_answer_5 3 rfl rfl)
theorem dX9_answer_142 : decode cX9_answer 142 = .ok (.invokevirtual 108, 3) := dk_182 0 108 (dk_at dksX9_answer_5 4 rfl rfl)
theorem dX9_answer_145 : decode cX9_answer 145 = .ok (.invokestatic 110, 3) := dk_184 0 110 (dk_at dksX9_answer_5 7 rfl rfl)
theorem dX9_answer_148 : decode cX9_answer 148 = .ok (.ireturn, 1) := dk_172 (dk_at dksX9_answer_5 10 rfl rfl)
theorem dX9_answer_149 : decode cX9_answer 149 = .ok (.aload_n 0, 1) := dk_42 (dk_at dksX9_answer_5 11 rfl rfl)
theorem dX9_answer_150 : decode cX9_answer 150 = .ok (.aload_n 1, 1) := dk_43 (dk_at dksX9_answer_5 12 rfl rfl)
theorem dX9_answer_151 : decode cX9_answer 151 = .ok (.getfield 104, 3) := dk_180 0 104 (dk_at dksX9_answer_5 13 rfl rfl)
theorem dX9_answer_154 : decode cX9_answer 154 = .ok (.iload_n 2, 1) := dk_28 (dk_at dksX9_answer_5 16 rfl rfl)
theorem dX9_answer_155 : decode cX9_answer 155 = .ok (.invokevirtual 108, 3) := dk_182 0 108 (dk_at dksX9_answer_5 17 rfl rfl)
theorem dX9_answer_158 : decode cX9_answer 158 = .ok (.aload_n 0, 1) := dk_42 (dk_at dksX9_answer_5 20 rfl rfl)
theorem dX9_answer_159 : decode cX9_answer 159 = .ok (.aload_n 1, 1) := dk_43 (dk_at dksX9_answer_5 21 rfl rfl)
theorem dX9_answer_160 : decode cX9_answer 160 = .ok (.getfield 113, 3) := dk_180 0 113 (dk_at dksX9_answer_6 0 rfl rfl)
theorem dX9_answer_163 : decode cX9_answer 163 = .ok (.iload_n 2, 1) := dk_28 (dk_at dksX9_answer_6 3 rfl rfl)
theorem dX9_answer_164 : decode cX9_answer 164 = .ok (.invokevirtual 108, 3) := dk_182 0 108 (dk_at dksX9_answer_6 4 rfl rfl)
theorem dX9_answer_167 : decode cX9_answer 167 = .ok (.invokestatic 116, 3) := dk_184 0 116 (dk_at dksX9_answer_6 7 rfl rfl)
theorem dX9_answer_170 : decode cX9_answer 170 = .ok (.ireturn, 1) := dk_172 (dk_at dksX9_answer_6 10 rfl rfl)
theorem dX9_answer_171 : decode cX9_answer 171 = .ok (.aload_n 0, 1) := dk_42 (dk_at dksX9_answer_6 11 rfl rfl)
theorem dX9_answer_172 : decode cX9_answer 172 = .ok (.aload_n 1, 1) := dk_43 (dk_at dksX9_answer_6 12 rfl rfl)
theorem dX9_answer_173 : decode cX9_answer 173 = .ok (.getfield 104, 3) := dk_180 0 104 (dk_at dksX9_answer_6 13 rfl rfl)
theorem dX9_answer_176 : decode cX9_answer 176 = .ok (.iload_n 2, 1) := dk_28 (dk_at dksX9_answer_6 16 rfl rfl)
theorem dX9_answer_177 : decode cX9_answer 177 = .ok (.invokevirtual 108, 3) := dk_182 0 108 (dk_at dksX9_answer_6 17 rfl rfl)
theorem dX9_answer_180 : decode cX9_answer 180 = .ok (.aload_n 0, 1) := dk_42 (dk_at dksX9_answer_6 20 rfl rfl)
theorem dX9_answer_181 : decode cX9_answer 181 = .ok (.aload_n 1, 1) := dk_43 (dk_at dksX9_answer_6 21 rfl rfl)
theorem dX9_answer_182 : decode cX9_answer 182 = .ok (.getfield 113, 3) := dk_180 0 113 (dk_at dksX9_answer_7 0 rfl rfl)
theorem dX9_answer_185 : decode cX9_answer 185 = .ok (.iload_n 2, 1) := dk_28 (dk_at dksX9_answer_7 3 rfl rfl)
theorem dX9_answer_186 : decode cX9_answer 186 = .ok (.invokevirtual 108, 3) := dk_182 0 108 (dk_at dksX9_answer_7 4 rfl rfl)
theorem dX9_answer_189 : decode cX9_answer 189 = .ok (.invokestatic 120, 3) := dk_184 0 120 (dk_at dksX9_answer_7 7 rfl rfl)
theorem dX9_answer_192 : decode cX9_answer 192 = .ok (.ireturn, 1) := dk_172 (dk_at dksX9_answer_7 10 rfl rfl)
theorem dX9_answer_193 : decode cX9_answer 193 = .ok (.iload_n 2, 1) := dk_28 (dk_at dksX9_answer_7 11 rfl rfl)
theorem dX9_answer_194 : decode cX9_answer 194 = .ok (.ifCond .ne 7, 3) := dk_154 0 7 (dk_at dksX9_answer_7 12 rfl rfl)
theorem dX9_answer_197 : decode cX9_answer 197 = .ok (.iconst 0, 1) := dk_3 (dk_at dksX9_answer_7 15 rfl rfl)
theorem dX9_answer_198 : decode cX9_answer 198 = .ok (.goto 14, 3) := dk_167 0 14 (dk_at dksX9_answer_7 16 rfl rfl)
theorem dX9_answer_201 : decode cX9_answer 201 = .ok (.aload_n 0, 1) := dk_42 (dk_at dksX9_answer_7 19 rfl rfl)
theorem dX9_answer_202 : decode cX9_answer 202 = .ok (.aload_n 1, 1) := dk_43 (dk_at dksX9_answer_7 20 rfl rfl)
theorem dX9_answer_203 : decode cX9_answer 203 = .ok (.getfield 104, 3) := dk_180 0 104 (dk_at dksX9_answer_7 21 rfl rfl)
theorem dX9_answer_206 : decode cX9_answer 206 = .ok (.iload_n 2, 1) := dk_28 (dk_at dksX9_answer_8 0 rfl rfl)
theorem dX9_answer_207 : decode cX9_answer 207 = .ok (.iconst 1, 1) := dk_4 (dk_at dksX9_answer_8 1 rfl rfl)
theorem dX9_answer_208 : decode cX9_answer 208 = .ok (.isub, 1) := dk_100 (dk_at dksX9_answer_8 2 rfl rfl)
theorem dX9_answer_209 : decode cX9_answer 209 = .ok (.invokevirtual 108, 3) := dk_182 0 108 (dk_at dksX9_answer_8 3 rfl rfl)
theorem dX9_answer_212 : decode cX9_answer 212 = .ok (.ireturn, 1) := dk_172 (dk_at dksX9_answer_8 6 rfl rfl)
theorem dX9_answer_213 : decode cX9_answer 213 = .ok (.iload_n 2, 1) := dk_28 (dk_at dksX9_answer_8 7 rfl rfl)
theorem dX9_answer_214 : decode cX9_answer 214 = .ok (.iconst 1, 1) := dk_4 (dk_at dksX9_answer_8 8 rfl rfl)
theorem dX9_answer_215 : decode cX9_answer 215 = .ok (.iadd, 1) := dk_96 (dk_at dksX9_answer_8 9 rfl rfl)
theorem dX9_answer_216 : decode cX9_answer 216 = .ok (.aload_n 0, 1) := dk_42 (dk_at dksX9_answer_8 10 rfl rfl)
theorem dX9_answer_217 : decode cX9_answer 217 = .ok (.getfield 18, 3) := dk_180 0 18 (dk_at dksX9_answer_8 11 rfl rfl)
theorem dX9_answer_220 : decode cX9_answer 220 = .ok (.invokeinterface 25 1, 5) := by decide +kernel
theorem dX9_answer_225 : decode cX9_answer 225 = .ok (.if_icmp .ge 17, 3) := dk_162 0 17 (dk_at dksX9_answer_8 19 rfl rfl)
theorem dX9_answer_228 : decode cX9_answer 228 = .ok (.aload_n 0, 1) := dk_42 (dk_at dksX9_answer_8 22 rfl rfl)
theorem dX9_answer_229 : decode cX9_answer 229 = .ok (.aload_n 1, 1) := dk_43 (dk_at dksX9_answer_8 23 rfl rfl)
theorem dX9_answer_230 : decode cX9_answer 230 = .ok (.getfield 104, 3) := dk_180 0 104 (dk_at dksX9_answer_9 0 rfl rfl)
theorem dX9_answer_233 : decode cX9_answer 233 = .ok (.iload_n 2, 1) := dk_28 (dk_at dksX9_answer_9 3 rfl rfl)
theorem dX9_answer_234 : decode cX9_answer 234 = .ok (.iconst 1, 1) := dk_4 (dk_at dksX9_answer_9 4 rfl rfl)
theorem dX9_answer_235 : decode cX9_answer 235 = .ok (.iadd, 1) := dk_96 (dk_at dksX9_answer_9 5 rfl rfl)
theorem dX9_answer_236 : decode cX9_answer 236 = .ok (.invokevirtual 108, 3) := dk_182 0 108 (dk_at dksX9_answer_9 6 rfl rfl)
theorem dX9_answer_239 : decode cX9_answer 239 = .ok (.goto 18, 3) := dk_167 0 18 (dk_at dksX9_answer_9 9 rfl rfl)
theorem dX9_answer_242 : decode cX9_answer 242 = .ok (.aload_n 0, 1) := dk_42 (dk_at dksX9_answer_9 12 rfl rfl)
theorem dX9_answer_243 : decode cX9_answer 243 = .ok (.getfield 3, 3) := dk_180 0 3 (dk_at dksX9_answer_9 13 rfl rfl)
theorem dX9_answer_246 : decode cX9_answer 246 = .ok (.getfield 71, 3) := dk_180 0 71 (dk_at dksX9_answer_9 16 rfl rfl)
theorem dX9_answer_249 : decode cX9_answer 249 = .ok (.ifCond .eq 7, 3) := dk_153 0 7 (dk_at dksX9_answer_9 19 rfl rfl)
theorem dX9_answer_252 : decode cX9_answer 252 = .ok (.iconst 2, 1) := dk_5 (dk_at dksX9_answer_9 22 rfl rfl)
theorem dX9_answer_253 : decode cX9_answer 253 = .ok (.goto 4, 3) := dk_167 0 4 (dk_at dksX9_answer_10 0 rfl rfl)
theorem dX9_answer_256 : decode cX9_answer 256 = .ok (.iconst 0, 1) := dk_3 (dk_at dksX9_answer_10 3 rfl rfl)
theorem dX9_answer_257 : decode cX9_answer 257 = .ok (.ireturn, 1) := dk_172 (dk_at dksX9_answer_10 4 rfl rfl)
theorem dX9_answer_258 : decode cX9_answer 258 = .ok (.aload_n 0, 1) := dk_42 (dk_at dksX9_answer_10 5 rfl rfl)
theorem dX9_answer_259 : decode cX9_answer 259 = .ok (.aload_n 1, 1) := dk_43 (dk_at dksX9_answer_10 6 rfl rfl)
theorem dX9_answer_260 : decode cX9_answer 260 = .ok (.iload_n 2, 1) := dk_28 (dk_at dksX9_answer_10 7 rfl rfl)
theorem dX9_answer_261 : decode cX9_answer 261 = .ok (.invokevirtual 123, 3) := dk_182 0 123 (dk_at dksX9_answer_10 8 rfl rfl)
theorem dX9_answer_264 : decode cX9_answer 264 = .ok (.ireturn, 1) := dk_172 (dk_at dksX9_answer_10 11 rfl rfl)
theorem dX9_answer_265 : decode cX9_answer 265 = .ok (.aload_n 0, 1) := dk_42 (dk_at dksX9_answer_10 12 rfl rfl)
theorem dX9_answer_266 : decode cX9_answer 266 = .ok (.aload_n 1, 1) := dk_43 (dk_at dksX9_answer_10 13 rfl rfl)
theorem dX9_answer_267 : decode cX9_answer 267 = .ok (.iload_n 2, 1) := dk_28 (dk_at dksX9_answer_10 14 rfl rfl)
theorem dX9_answer_268 : decode cX9_answer 268 = .ok (.invokevirtual 126, 3) := dk_182 0 126 (dk_at dksX9_answer_10 15 rfl rfl)
theorem dX9_answer_271 : decode cX9_answer 271 = .ok (.ireturn, 1) := dk_172 (dk_at dksX9_answer_10 18 rfl rfl)
theorem dX9_answer_272 : decode cX9_answer 272 = .ok (.aload_n 0, 1) := dk_42 (dk_at dksX9_answer_10 19 rfl rfl)
theorem dX9_answer_273 : decode cX9_answer 273 = .ok (.aload_n 1, 1) := dk_43 (dk_at dksX9_answer_10 20 rfl rfl)
theorem dX9_answer_274 : decode cX9_answer 274 = .ok (.iload_n 2, 1) := dk_28 (dk_at dksX9_answer_10 21 rfl rfl)
theorem dX9_answer_275 : decode cX9_answer 275 = .ok (.invokevirtual 129, 3) := dk_182 0 129 (dk_at dksX9_answer_11 0 rfl rfl)
theorem dX9_answer_278 : decode cX9_answer 278 = .ok (.ireturn, 1) := dk_172 (dk_at dksX9_answer_11 3 rfl rfl)
abbrev cX9_at : ByteArray := prog_7_method_4_code
def yX9_at : MethodName := ⟨RX9, "at", "(LLogGrammar$Formula;I)I"⟩
def dkwX9_at_1 : List UInt8 := [28, 42, 43, 28, 182, 0, 58, 79, 42, 180, 0, 33, 43, 180, 0, 55, 50, 28, 46, 172]
abbrev dktX9_at_1 : List UInt8 := dkwX9_at_1 ++ []
def dkwX9_at_0 : List UInt8 := [42, 180, 0, 33, 43, 180, 0, 55, 50, 28, 46, 2, 160, 0, 20, 42, 180, 0, 33, 43, 180, 0, 55, 50]
abbrev dktX9_at_0 : List UInt8 := dkwX9_at_0 ++ dktX9_at_1
theorem dksX9_at_0 : cX9_at.data.toList.drop 0 = dktX9_at_0 := by decide +kernel
theorem dksX9_at_1 : cX9_at.data.toList.drop 24 = dktX9_at_1 := dk_seg dksX9_at_0 24 rfl rfl
theorem dX9_at_0 : decode cX9_at 0 = .ok (.aload_n 0, 1) := dk_42 (dk_at dksX9_at_0 0 rfl rfl)
theorem dX9_at_1 : decode cX9_at 1 = .ok (.getfield 33, 3) := dk_180 0 33 (dk_at dksX9_at_0 1 rfl rfl)
theorem dX9_at_4 : decode cX9_at 4 = .ok (.aload_n 1, 1) := dk_43 (dk_at dksX9_at_0 4 rfl rfl)
theorem dX9_at_5 : decode cX9_at 5 = .ok (.getfield 55, 3) := dk_180 0 55 (dk_at dksX9_at_0 5 rfl rfl)
theorem dX9_at_8 : decode cX9_at 8 = .ok (.aaload, 1) := dk_50 (dk_at dksX9_at_0 8 rfl rfl)
theorem dX9_at_9 : decode cX9_at 9 = .ok (.iload_n 2, 1) := dk_28 (dk_at dksX9_at_0 9 rfl rfl)
theorem dX9_at_10 : decode cX9_at 10 = .ok (.iaload, 1) := dk_46 (dk_at dksX9_at_0 10 rfl rfl)
theorem dX9_at_11 : decode cX9_at 11 = .ok (.iconst (-1), 1) := dk_2 (dk_at dksX9_at_0 11 rfl rfl)
theorem dX9_at_12 : decode cX9_at 12 = .ok (.if_icmp .ne 20, 3) := dk_160 0 20 (dk_at dksX9_at_0 12 rfl rfl)
theorem dX9_at_15 : decode cX9_at 15 = .ok (.aload_n 0, 1) := dk_42 (dk_at dksX9_at_0 15 rfl rfl)
theorem dX9_at_16 : decode cX9_at 16 = .ok (.getfield 33, 3) := dk_180 0 33 (dk_at dksX9_at_0 16 rfl rfl)
theorem dX9_at_19 : decode cX9_at 19 = .ok (.aload_n 1, 1) := dk_43 (dk_at dksX9_at_0 19 rfl rfl)
theorem dX9_at_20 : decode cX9_at 20 = .ok (.getfield 55, 3) := dk_180 0 55 (dk_at dksX9_at_0 20 rfl rfl)
theorem dX9_at_23 : decode cX9_at 23 = .ok (.aaload, 1) := dk_50 (dk_at dksX9_at_0 23 rfl rfl)
theorem dX9_at_24 : decode cX9_at 24 = .ok (.iload_n 2, 1) := dk_28 (dk_at dksX9_at_1 0 rfl rfl)
theorem dX9_at_25 : decode cX9_at 25 = .ok (.aload_n 0, 1) := dk_42 (dk_at dksX9_at_1 1 rfl rfl)
theorem dX9_at_26 : decode cX9_at 26 = .ok (.aload_n 1, 1) := dk_43 (dk_at dksX9_at_1 2 rfl rfl)
theorem dX9_at_27 : decode cX9_at 27 = .ok (.iload_n 2, 1) := dk_28 (dk_at dksX9_at_1 3 rfl rfl)
theorem dX9_at_28 : decode cX9_at 28 = .ok (.invokevirtual 58, 3) := dk_182 0 58 (dk_at dksX9_at_1 4 rfl rfl)
theorem dX9_at_31 : decode cX9_at 31 = .ok (.iastore, 1) := dk_79 (dk_at dksX9_at_1 7 rfl rfl)
theorem dX9_at_32 : decode cX9_at 32 = .ok (.aload_n 0, 1) := dk_42 (dk_at dksX9_at_1 8 rfl rfl)
theorem dX9_at_33 : decode cX9_at 33 = .ok (.getfield 33, 3) := dk_180 0 33 (dk_at dksX9_at_1 9 rfl rfl)
theorem dX9_at_36 : decode cX9_at 36 = .ok (.aload_n 1, 1) := dk_43 (dk_at dksX9_at_1 12 rfl rfl)
theorem dX9_at_37 : decode cX9_at 37 = .ok (.getfield 55, 3) := dk_180 0 55 (dk_at dksX9_at_1 13 rfl rfl)
theorem dX9_at_40 : decode cX9_at 40 = .ok (.aaload, 1) := dk_50 (dk_at dksX9_at_1 16 rfl rfl)
theorem dX9_at_41 : decode cX9_at 41 = .ok (.iload_n 2, 1) := dk_28 (dk_at dksX9_at_1 17 rfl rfl)
theorem dX9_at_42 : decode cX9_at 42 = .ok (.iaload, 1) := dk_46 (dk_at dksX9_at_1 18 rfl rfl)
theorem dX9_at_43 : decode cX9_at 43 = .ok (.ireturn, 1) := dk_172 (dk_at dksX9_at_1 19 rfl rfl)
abbrev cX9_behind : ByteArray := prog_7_method_8_code
def yX9_behind : MethodName := ⟨RX9, "behind", "(LLogGrammar$Formula;I)I"⟩
def dkwX9_behind_4 : List UInt8 := [21, 6, 182, 0, 108, 184, 0, 116, 54, 5, 132, 6, 255, 167, 255, 176, 21, 4, 172]
abbrev dktX9_behind_4 : List UInt8 := dkwX9_behind_4 ++ []
def dkwX9_behind_3 : List UInt8 := [184, 0, 116, 184, 0, 120, 54, 4, 29, 153, 0, 7, 4, 167, 0, 18, 21, 5, 42, 43, 180, 0, 104]
abbrev dktX9_behind_3 : List UInt8 := dkwX9_behind_3 ++ dktX9_behind_4
def dkwX9_behind_2 : List UInt8 := [21, 5, 42, 29, 153, 0, 10, 43, 180, 0, 104, 167, 0, 7, 43, 180, 0, 113, 21, 6, 182, 0, 108]
abbrev dktX9_behind_2 : List UInt8 := dkwX9_behind_2 ++ dktX9_behind_3
def dkwX9_behind_1 : List UInt8 := [54, 6, 21, 6, 155, 0, 81, 42, 21, 6, 28, 43, 180, 0, 96, 182, 0, 135, 153, 0, 67, 21, 4]
abbrev dktX9_behind_1 : List UInt8 := dkwX9_behind_1 ++ dktX9_behind_2
def dkwX9_behind_0 : List UInt8 := [43, 180, 0, 78, 178, 0, 132, 166, 0, 7, 4, 167, 0, 4, 3, 62, 3, 54, 4, 4, 54, 5, 28]
abbrev dktX9_behind_0 : List UInt8 := dkwX9_behind_0 ++ dktX9_behind_1
theorem dksX9_behind_0 : cX9_behind.data.toList.drop 0 = dktX9_behind_0 := by decide +kernel
theorem dksX9_behind_1 : cX9_behind.data.toList.drop 23 = dktX9_behind_1 := dk_seg dksX9_behind_0 23 rfl rfl
theorem dksX9_behind_2 : cX9_behind.data.toList.drop 46 = dktX9_behind_2 := dk_seg dksX9_behind_1 23 rfl rfl
theorem dksX9_behind_3 : cX9_behind.data.toList.drop 69 = dktX9_behind_3 := dk_seg dksX9_behind_2 23 rfl rfl
theorem dksX9_behind_4 : cX9_behind.data.toList.drop 92 = dktX9_behind_4 := dk_seg dksX9_behind_3 23 rfl rfl
theorem dX9_behind_0 : decode cX9_behind 0 = .ok (.aload_n 1, 1) := dk_43 (dk_at dksX9_behind_0 0 rfl rfl)
theorem dX9_behind_1 : decode cX9_behind 1 = .ok (.getfield 78, 3) := dk_180 0 78 (dk_at dksX9_behind_0 1 rfl rfl)
theorem dX9_behind_4 : decode cX9_behind 4 = .ok (.getstatic 132, 3) := dk_178 0 132 (dk_at dksX9_behind_0 4 rfl rfl)
theorem dX9_behind_7 : decode cX9_behind 7 = .ok (.if_acmp .ne 7, 3) := dk_166 0 7 (dk_at dksX9_behind_0 7 rfl rfl)
theorem dX9_behind_10 : decode cX9_behind 10 = .ok (.iconst 1, 1) := dk_4 (dk_at dksX9_behind_0 10 rfl rfl)
theorem dX9_behind_11 : decode cX9_behind 11 = .ok (.goto 4, 3) := dk_167 0 4 (dk_at dksX9_behind_0 11 rfl rfl)
theorem dX9_behind_14 : decode cX9_behind 14 = .ok (.iconst 0, 1) := dk_3 (dk_at dksX9_behind_0 14 rfl rfl)
theorem dX9_behind_15 : decode cX9_behind 15 = .ok (.istore_n 3, 1) := dk_62 (dk_at dksX9_behind_0 15 rfl rfl)
theorem dX9_behind_16 : decode cX9_behind 16 = .ok (.iconst 0, 1) := dk_3 (dk_at dksX9_behind_0 16 rfl rfl)
theorem dX9_behind_17 : decode cX9_behind 17 = .ok (.istore 4, 2) := dk_54 4 (dk_at dksX9_behind_0 17 rfl rfl)
theorem dX9_behind_19 : decode cX9_behind 19 = .ok (.iconst 1, 1) := dk_4 (dk_at dksX9_behind_0 19 rfl rfl)
theorem dX9_behind_20 : decode cX9_behind 20 = .ok (.istore 5, 2) := dk_54 5 (dk_at dksX9_behind_0 20 rfl rfl)
theorem dX9_behind_22 : decode cX9_behind 22 = .ok (.iload_n 2, 1) := dk_28 (dk_at dksX9_behind_0 22 rfl rfl)
theorem dX9_behind_23 : decode cX9_behind 23 = .ok (.istore 6, 2) := dk_54 6 (dk_at dksX9_behind_1 0 rfl rfl)
theorem dX9_behind_25 : decode cX9_behind 25 = .ok (.iload 6, 2) := dk_21 6 (dk_at dksX9_behind_1 2 rfl rfl)
theorem dX9_behind_27 : decode cX9_behind 27 = .ok (.ifCond .lt 81, 3) := dk_155 0 81 (dk_at dksX9_behind_1 4 rfl rfl)
theorem dX9_behind_30 : decode cX9_behind 30 = .ok (.aload_n 0, 1) := dk_42 (dk_at dksX9_behind_1 7 rfl rfl)
theorem dX9_behind_31 : decode cX9_behind 31 = .ok (.iload 6, 2) := dk_21 6 (dk_at dksX9_behind_1 8 rfl rfl)
theorem dX9_behind_33 : decode cX9_behind 33 = .ok (.iload_n 2, 1) := dk_28 (dk_at dksX9_behind_1 10 rfl rfl)
theorem dX9_behind_34 : decode cX9_behind 34 = .ok (.aload_n 1, 1) := dk_43 (dk_at dksX9_behind_1 11 rfl rfl)
theorem dX9_behind_35 : decode cX9_behind 35 = .ok (.getfield 96, 3) := dk_180 0 96 (dk_at dksX9_behind_1 12 rfl rfl)
theorem dX9_behind_38 : decode cX9_behind 38 = .ok (.invokevirtual 135, 3) := dk_182 0 135 (dk_at dksX9_behind_1 15 rfl rfl)
theorem dX9_behind_41 : decode cX9_behind 41 = .ok (.ifCond .eq 67, 3) := dk_153 0 67 (dk_at dksX9_behind_1 18 rfl rfl)
theorem dX9_behind_44 : decode cX9_behind 44 = .ok (.iload 4, 2) := dk_21 4 (dk_at dksX9_behind_1 21 rfl rfl)
theorem dX9_behind_46 : decode cX9_behind 46 = .ok (.iload 5, 2) := dk_21 5 (dk_at dksX9_behind_2 0 rfl rfl)
theorem dX9_behind_48 : decode cX9_behind 48 = .ok (.aload_n 0, 1) := dk_42 (dk_at dksX9_behind_2 2 rfl rfl)
theorem dX9_behind_49 : decode cX9_behind 49 = .ok (.iload_n 3, 1) := dk_29 (dk_at dksX9_behind_2 3 rfl rfl)
theorem dX9_behind_50 : decode cX9_behind 50 = .ok (.ifCond .eq 10, 3) := dk_153 0 10 (dk_at dksX9_behind_2 4 rfl rfl)
theorem dX9_behind_53 : decode cX9_behind 53 = .ok (.aload_n 1, 1) := dk_43 (dk_at dksX9_behind_2 7 rfl rfl)
theorem dX9_behind_54 : decode cX9_behind 54 = .ok (.getfield 104, 3) := dk_180 0 104 (dk_at dksX9_behind_2 8 rfl rfl)
theorem dX9_behind_57 : decode cX9_behind 57 = .ok (.goto 7, 3) := dk_167 0 7 (dk_at dksX9_behind_2 11 rfl rfl)
theorem dX9_behind_60 : decode cX9_behind 60 = .ok (.aload_n 1, 1) := dk_43 (dk_at dksX9_behind_2 14 rfl rfl)
theorem dX9_behind_61 : decode cX9_behind 61 = .ok (.getfield 113, 3) := dk_180 0 113 (dk_at dksX9_behind_2 15 rfl rfl)
theorem dX9_behind_64 : decode cX9_behind 64 = .ok (.iload 6, 2) := dk_21 6 (dk_at dksX9_behind_2 18 rfl rfl)
theorem dX9_behind_66 : decode cX9_behind 66 = .ok (.invokevirtual 108, 3) := dk_182 0 108 (dk_at dksX9_behind_2 20 rfl rfl)
theorem dX9_behind_69 : decode cX9_behind 69 = .ok (.invokestatic 116, 3) := dk_184 0 116 (dk_at dksX9_behind_3 0 rfl rfl)
theorem dX9_behind_72 : decode cX9_behind 72 = .ok (.invokestatic 120, 3) := dk_184 0 120 (dk_at dksX9_behind_3 3 rfl rfl)
theorem dX9_behind_75 : decode cX9_behind 75 = .ok (.istore 4, 2) := dk_54 4 (dk_at dksX9_behind_3 6 rfl rfl)
theorem dX9_behind_77 : decode cX9_behind 77 = .ok (.iload_n 3, 1) := dk_29 (dk_at dksX9_behind_3 8 rfl rfl)
theorem dX9_behind_78 : decode cX9_behind 78 = .ok (.ifCond .eq 7, 3) := dk_153 0 7 (dk_at dksX9_behind_3 9 rfl rfl)
theorem dX9_behind_81 : decode cX9_behind 81 = .ok (.iconst 1, 1) := dk_4 (dk_at dksX9_behind_3 12 rfl rfl)
theorem dX9_behind_82 : decode cX9_behind 82 = .ok (.goto 18, 3) := dk_167 0 18 (dk_at dksX9_behind_3 13 rfl rfl)
theorem dX9_behind_85 : decode cX9_behind 85 = .ok (.iload 5, 2) := dk_21 5 (dk_at dksX9_behind_3 16 rfl rfl)
theorem dX9_behind_87 : decode cX9_behind 87 = .ok (.aload_n 0, 1) := dk_42 (dk_at dksX9_behind_3 18 rfl rfl)
theorem dX9_behind_88 : decode cX9_behind 88 = .ok (.aload_n 1, 1) := dk_43 (dk_at dksX9_behind_3 19 rfl rfl)
theorem dX9_behind_89 : decode cX9_behind 89 = .ok (.getfield 104, 3) := dk_180 0 104 (dk_at dksX9_behind_3 20 rfl rfl)
theorem dX9_behind_92 : decode cX9_behind 92 = .ok (.iload 6, 2) := dk_21 6 (dk_at dksX9_behind_4 0 rfl rfl)
theorem dX9_behind_94 : decode cX9_behind 94 = .ok (.invokevirtual 108, 3) := dk_182 0 108 (dk_at dksX9_behind_4 2 rfl rfl)
theorem dX9_behind_97 : decode cX9_behind 97 = .ok (.invokestatic 116, 3) := dk_184 0 116 (dk_at dksX9_behind_4 5 rfl rfl)
theorem dX9_behind_100 : decode cX9_behind 100 = .ok (.istore 5, 2) := dk_54 5 (dk_at dksX9_behind_4 8 rfl rfl)
theorem dX9_behind_102 : decode cX9_behind 102 = .ok (.iinc 6 (-1), 3) := dk_132 6 255 (dk_at dksX9_behind_4 10 rfl rfl)
theorem dX9_behind_105 : decode cX9_behind 105 = .ok (.goto (-80), 3) := dk_167 255 176 (dk_at dksX9_behind_4 13 rfl rfl)
theorem dX9_behind_108 : decode cX9_behind 108 = .ok (.iload 4, 2) := dk_21 4 (dk_at dksX9_behind_4 16 rfl rfl)
theorem dX9_behind_110 : decode cX9_behind 110 = .ok (.ireturn, 1) := dk_172 (dk_at dksX9_behind_4 18 rfl rfl)
abbrev cX9_isNear : ByteArray := prog_7_method_5_code
def yX9_isNear : MethodName := ⟨RX9, "isNear", "(III)Z"⟩
def dkwX9_isNear_2 : List UInt8 := [167, 0, 4, 3, 172]
abbrev dktX9_isNear_2 : List UInt8 := dkwX9_isNear_2 ++ []
def dkwX9_isNear_1 : List UInt8 := [180, 0, 18, 28, 185, 0, 39, 2, 0, 192, 0, 43, 180, 0, 62, 100, 184, 0, 65, 29, 163, 0, 7, 4]
abbrev dktX9_isNear_1 : List UInt8 := dkwX9_isNear_1 ++ dktX9_isNear_2
def dkwX9_isNear_0 : List UInt8 := [29, 2, 159, 0, 43, 42, 180, 0, 18, 27, 185, 0, 39, 2, 0, 192, 0, 43, 180, 0, 62, 42]
abbrev dktX9_isNear_0 : List UInt8 := dkwX9_isNear_0 ++ dktX9_isNear_1
theorem dksX9_isNear_0 : cX9_isNear.data.toList.drop 0 = dktX9_isNear_0 := by decide +kernel
theorem dksX9_isNear_1 : cX9_isNear.data.toList.drop 22 = dktX9_isNear_1 := dk_seg dksX9_isNear_0 22 rfl rfl
theorem dksX9_isNear_2 : cX9_isNear.data.toList.drop 46 = dktX9_isNear_2 := dk_seg dksX9_isNear_1 24 rfl rfl
theorem dX9_isNear_0 : decode cX9_isNear 0 = .ok (.iload_n 3, 1) := dk_29 (dk_at dksX9_isNear_0 0 rfl rfl)
theorem dX9_isNear_1 : decode cX9_isNear 1 = .ok (.iconst (-1), 1) := dk_2 (dk_at dksX9_isNear_0 1 rfl rfl)
theorem dX9_isNear_2 : decode cX9_isNear 2 = .ok (.if_icmp .eq 43, 3) := dk_159 0 43 (dk_at dksX9_isNear_0 2 rfl rfl)
theorem dX9_isNear_5 : decode cX9_isNear 5 = .ok (.aload_n 0, 1) := dk_42 (dk_at dksX9_isNear_0 5 rfl rfl)
theorem dX9_isNear_6 : decode cX9_isNear 6 = .ok (.getfield 18, 3) := dk_180 0 18 (dk_at dksX9_isNear_0 6 rfl rfl)
theorem dX9_isNear_9 : decode cX9_isNear 9 = .ok (.iload_n 1, 1) := dk_27 (dk_at dksX9_isNear_0 9 rfl rfl)
theorem dX9_isNear_10 : decode cX9_isNear 10 = .ok (.invokeinterface 39 2, 5) := by decide +kernel
theorem dX9_isNear_15 : decode cX9_isNear 15 = .ok (.checkcast 43, 3) := dk_192 0 43 (dk_at dksX9_isNear_0 15 rfl rfl)
theorem dX9_isNear_18 : decode cX9_isNear 18 = .ok (.getfield 62, 3) := dk_180 0 62 (dk_at dksX9_isNear_0 18 rfl rfl)
theorem dX9_isNear_21 : decode cX9_isNear 21 = .ok (.aload_n 0, 1) := dk_42 (dk_at dksX9_isNear_0 21 rfl rfl)
theorem dX9_isNear_22 : decode cX9_isNear 22 = .ok (.getfield 18, 3) := dk_180 0 18 (dk_at dksX9_isNear_1 0 rfl rfl)
theorem dX9_isNear_25 : decode cX9_isNear 25 = .ok (.iload_n 2, 1) := dk_28 (dk_at dksX9_isNear_1 3 rfl rfl)
theorem dX9_isNear_26 : decode cX9_isNear 26 = .ok (.invokeinterface 39 2, 5) := by decide +kernel
theorem dX9_isNear_31 : decode cX9_isNear 31 = .ok (.checkcast 43, 3) := dk_192 0 43 (dk_at dksX9_isNear_1 9 rfl rfl)
theorem dX9_isNear_34 : decode cX9_isNear 34 = .ok (.getfield 62, 3) := dk_180 0 62 (dk_at dksX9_isNear_1 12 rfl rfl)
theorem dX9_isNear_37 : decode cX9_isNear 37 = .ok (.isub, 1) := dk_100 (dk_at dksX9_isNear_1 15 rfl rfl)
theorem dX9_isNear_38 : decode cX9_isNear 38 = .ok (.invokestatic 65, 3) := dk_184 0 65 (dk_at dksX9_isNear_1 16 rfl rfl)
theorem dX9_isNear_41 : decode cX9_isNear 41 = .ok (.iload_n 3, 1) := dk_29 (dk_at dksX9_isNear_1 19 rfl rfl)
theorem dX9_isNear_42 : decode cX9_isNear 42 = .ok (.if_icmp .gt 7, 3) := dk_163 0 7 (dk_at dksX9_isNear_1 20 rfl rfl)
theorem dX9_isNear_45 : decode cX9_isNear 45 = .ok (.iconst 1, 1) := dk_4 (dk_at dksX9_isNear_1 23 rfl rfl)
theorem dX9_isNear_46 : decode cX9_isNear 46 = .ok (.goto 4, 3) := dk_167 0 4 (dk_at dksX9_isNear_2 0 rfl rfl)
theorem dX9_isNear_49 : decode cX9_isNear 49 = .ok (.iconst 0, 1) := dk_3 (dk_at dksX9_isNear_2 3 rfl rfl)
theorem dX9_isNear_50 : decode cX9_isNear 50 = .ok (.ireturn, 1) := dk_172 (dk_at dksX9_isNear_2 4 rfl rfl)
abbrev cX9_counted : ByteArray := prog_7_method_10_code
def yX9_counted : MethodName := ⟨RX9, "counted", "(LLogGrammar$Formula;I)I"⟩
def dkwX9_counted_4 : List UInt8 := [180, 0, 90, 162, 0, 7, 3, 167, 0, 4, 5, 172]
abbrev dktX9_counted_4 : List UInt8 := dkwX9_counted_4 ++ []
def dkwX9_counted_3 : List UInt8 := [132, 5, 255, 167, 255, 192, 29, 43, 180, 0, 90, 161, 0, 7, 4, 167, 0, 19, 29, 21, 4, 96, 43]
abbrev dktX9_counted_3 : List UInt8 := dkwX9_counted_3 ++ dktX9_counted_4
def dkwX9_counted_2 : List UInt8 := [167, 0, 4, 3, 96, 62, 21, 4, 21, 6, 5, 160, 0, 7, 4, 167, 0, 4, 3, 96, 54, 4]
abbrev dktX9_counted_2 : List UInt8 := dkwX9_counted_2 ++ dktX9_counted_3
def dkwX9_counted_1 : List UInt8 := [153, 0, 51, 42, 43, 180, 0, 104, 21, 5, 182, 0, 108, 54, 6, 29, 21, 6, 4, 160, 0, 7, 4]
abbrev dktX9_counted_1 : List UInt8 := dkwX9_counted_1 ++ dktX9_counted_2
def dkwX9_counted_0 : List UInt8 := [3, 62, 3, 54, 4, 28, 54, 5, 21, 5, 155, 0, 65, 42, 21, 5, 28, 43, 180, 0, 96, 182, 0, 135]
abbrev dktX9_counted_0 : List UInt8 := dkwX9_counted_0 ++ dktX9_counted_1
theorem dksX9_counted_0 : cX9_counted.data.toList.drop 0 = dktX9_counted_0 := by decide +kernel
theorem dksX9_counted_1 : cX9_counted.data.toList.drop 24 = dktX9_counted_1 := dk_seg dksX9_counted_0 24 rfl rfl
theorem dksX9_counted_2 : cX9_counted.data.toList.drop 47 = dktX9_counted_2 := dk_seg dksX9_counted_1 23 rfl rfl
theorem dksX9_counted_3 : cX9_counted.data.toList.drop 69 = dktX9_counted_3 := dk_seg dksX9_counted_2 22 rfl rfl
theorem dksX9_counted_4 : cX9_counted.data.toList.drop 92 = dktX9_counted_4 := dk_seg dksX9_counted_3 23 rfl rfl
theorem dX9_counted_0 : decode cX9_counted 0 = .ok (.iconst 0, 1) := dk_3 (dk_at dksX9_counted_0 0 rfl rfl)
theorem dX9_counted_1 : decode cX9_counted 1 = .ok (.istore_n 3, 1) := dk_62 (dk_at dksX9_counted_0 1 rfl rfl)
theorem dX9_counted_2 : decode cX9_counted 2 = .ok (.iconst 0, 1) := dk_3 (dk_at dksX9_counted_0 2 rfl rfl)
theorem dX9_counted_3 : decode cX9_counted 3 = .ok (.istore 4, 2) := dk_54 4 (dk_at dksX9_counted_0 3 rfl rfl)
theorem dX9_counted_5 : decode cX9_counted 5 = .ok (.iload_n 2, 1) := dk_28 (dk_at dksX9_counted_0 5 rfl rfl)
theorem dX9_counted_6 : decode cX9_counted 6 = .ok (.istore 5, 2) := dk_54 5 (dk_at dksX9_counted_0 6 rfl rfl)
theorem dX9_counted_8 : decode cX9_counted 8 = .ok (.iload 5, 2) := dk_21 5 (dk_at dksX9_counted_0 8 rfl rfl)
theorem dX9_counted_10 : decode cX9_counted 10 = .ok (.ifCond .lt 65, 3) := dk_155 0 65 (dk_at dksX9_counted_0 10 rfl rfl)
theorem dX9_counted_13 : decode cX9_counted 13 = .ok (.aload_n 0, 1) := dk_42 (dk_at dksX9_counted_0 13 rfl rfl)
theorem dX9_counted_14 : decode cX9_counted 14 = .ok (.iload 5, 2) := dk_21 5 (dk_at dksX9_counted_0 14 rfl rfl)
theorem dX9_counted_16 : decode cX9_counted 16 = .ok (.iload_n 2, 1) := dk_28 (dk_at dksX9_counted_0 16 rfl rfl)
theorem dX9_counted_17 : decode cX9_counted 17 = .ok (.aload_n 1, 1) := dk_43 (dk_at dksX9_counted_0 17 rfl rfl)
theorem dX9_counted_18 : decode cX9_counted 18 = .ok (.getfield 96, 3) := dk_180 0 96 (dk_at dksX9_counted_0 18 rfl rfl)
theorem dX9_counted_21 : decode cX9_counted 21 = .ok (.invokevirtual 135, 3) := dk_182 0 135 (dk_at dksX9_counted_0 21 rfl rfl)
theorem dX9_counted_24 : decode cX9_counted 24 = .ok (.ifCond .eq 51, 3) := dk_153 0 51 (dk_at dksX9_counted_1 0 rfl rfl)
theorem dX9_counted_27 : decode cX9_counted 27 = .ok (.aload_n 0, 1) := dk_42 (dk_at dksX9_counted_1 3 rfl rfl)
theorem dX9_counted_28 : decode cX9_counted 28 = .ok (.aload_n 1, 1) := dk_43 (dk_at dksX9_counted_1 4 rfl rfl)
theorem dX9_counted_29 : decode cX9_counted 29 = .ok (.getfield 104, 3) := dk_180 0 104 (dk_at dksX9_counted_1 5 rfl rfl)
theorem dX9_counted_32 : decode cX9_counted 32 = .ok (.iload 5, 2) := dk_21 5 (dk_at dksX9_counted_1 8 rfl rfl)
theorem dX9_counted_34 : decode cX9_counted 34 = .ok (.invokevirtual 108, 3) := dk_182 0 108 (dk_at dksX9_counted_1 10 rfl rfl)
theorem dX9_counted_37 : decode cX9_counted 37 = .ok (.istore 6, 2) := dk_54 6 (dk_at dksX9_counted_1 13 rfl rfl)
theorem dX9_counted_39 : decode cX9_counted 39 = .ok (.iload_n 3, 1) := dk_29 (dk_at dksX9_counted_1 15 rfl rfl)
theorem dX9_counted_40 : decode cX9_counted 40 = .ok (.iload 6, 2) := dk_21 6 (dk_at dksX9_counted_1 16 rfl rfl)
theorem dX9_counted_42 : decode cX9_counted 42 = .ok (.iconst 1, 1) := dk_4 (dk_at dksX9_counted_1 18 rfl rfl)
theorem dX9_counted_43 : decode cX9_counted 43 = .ok (.if_icmp .ne 7, 3) := dk_160 0 7 (dk_at dksX9_counted_1 19 rfl rfl)
theorem dX9_counted_46 : decode cX9_counted 46 = .ok (.iconst 1, 1) := dk_4 (dk_at dksX9_counted_1 22 rfl rfl)
theorem dX9_counted_47 : decode cX9_counted 47 = .ok (.goto 4, 3) := dk_167 0 4 (dk_at dksX9_counted_2 0 rfl rfl)
theorem dX9_counted_50 : decode cX9_counted 50 = .ok (.iconst 0, 1) := dk_3 (dk_at dksX9_counted_2 3 rfl rfl)
theorem dX9_counted_51 : decode cX9_counted 51 = .ok (.iadd, 1) := dk_96 (dk_at dksX9_counted_2 4 rfl rfl)
theorem dX9_counted_52 : decode cX9_counted 52 = .ok (.istore_n 3, 1) := dk_62 (dk_at dksX9_counted_2 5 rfl rfl)
theorem dX9_counted_53 : decode cX9_counted 53 = .ok (.iload 4, 2) := dk_21 4 (dk_at dksX9_counted_2 6 rfl rfl)
theorem dX9_counted_55 : decode cX9_counted 55 = .ok (.iload 6, 2) := dk_21 6 (dk_at dksX9_counted_2 8 rfl rfl)
theorem dX9_counted_57 : decode cX9_counted 57 = .ok (.iconst 2, 1) := dk_5 (dk_at dksX9_counted_2 10 rfl rfl)
theorem dX9_counted_58 : decode cX9_counted 58 = .ok (.if_icmp .ne 7, 3) := dk_160 0 7 (dk_at dksX9_counted_2 11 rfl rfl)
theorem dX9_counted_61 : decode cX9_counted 61 = .ok (.iconst 1, 1) := dk_4 (dk_at dksX9_counted_2 14 rfl rfl)
theorem dX9_counted_62 : decode cX9_counted 62 = .ok (.goto 4, 3) := dk_167 0 4 (dk_at dksX9_counted_2 15 rfl rfl)
theorem dX9_counted_65 : decode cX9_counted 65 = .ok (.iconst 0, 1) := dk_3 (dk_at dksX9_counted_2 18 rfl rfl)
theorem dX9_counted_66 : decode cX9_counted 66 = .ok (.iadd, 1) := dk_96 (dk_at dksX9_counted_2 19 rfl rfl)
theorem dX9_counted_67 : decode cX9_counted 67 = .ok (.istore 4, 2) := dk_54 4 (dk_at dksX9_counted_2 20 rfl rfl)
theorem dX9_counted_69 : decode cX9_counted 69 = .ok (.iinc 5 (-1), 3) := dk_132 5 255 (dk_at dksX9_counted_3 0 rfl rfl)
theorem dX9_counted_72 : decode cX9_counted 72 = .ok (.goto (-64), 3) := dk_167 255 192 (dk_at dksX9_counted_3 3 rfl rfl)
theorem dX9_counted_75 : decode cX9_counted 75 = .ok (.iload_n 3, 1) := dk_29 (dk_at dksX9_counted_3 6 rfl rfl)
theorem dX9_counted_76 : decode cX9_counted 76 = .ok (.aload_n 1, 1) := dk_43 (dk_at dksX9_counted_3 7 rfl rfl)
theorem dX9_counted_77 : decode cX9_counted 77 = .ok (.getfield 90, 3) := dk_180 0 90 (dk_at dksX9_counted_3 8 rfl rfl)
theorem dX9_counted_80 : decode cX9_counted 80 = .ok (.if_icmp .lt 7, 3) := dk_161 0 7 (dk_at dksX9_counted_3 11 rfl rfl)
theorem dX9_counted_83 : decode cX9_counted 83 = .ok (.iconst 1, 1) := dk_4 (dk_at dksX9_counted_3 14 rfl rfl)
theorem dX9_counted_84 : decode cX9_counted 84 = .ok (.goto 19, 3) := dk_167 0 19 (dk_at dksX9_counted_3 15 rfl rfl)
theorem dX9_counted_87 : decode cX9_counted 87 = .ok (.iload_n 3, 1) := dk_29 (dk_at dksX9_counted_3 18 rfl rfl)
theorem dX9_counted_88 : decode cX9_counted 88 = .ok (.iload 4, 2) := dk_21 4 (dk_at dksX9_counted_3 19 rfl rfl)
theorem dX9_counted_90 : decode cX9_counted 90 = .ok (.iadd, 1) := dk_96 (dk_at dksX9_counted_3 21 rfl rfl)
theorem dX9_counted_91 : decode cX9_counted 91 = .ok (.aload_n 1, 1) := dk_43 (dk_at dksX9_counted_3 22 rfl rfl)
theorem dX9_counted_92 : decode cX9_counted 92 = .ok (.getfield 90, 3) := dk_180 0 90 (dk_at dksX9_counted_4 0 rfl rfl)
theorem dX9_counted_95 : decode cX9_counted 95 = .ok (.if_icmp .ge 7, 3) := dk_162 0 7 (dk_at dksX9_counted_4 3 rfl rfl)
theorem dX9_counted_98 : decode cX9_counted 98 = .ok (.iconst 0, 1) := dk_3 (dk_at dksX9_counted_4 6 rfl rfl)
theorem dX9_counted_99 : decode cX9_counted 99 = .ok (.goto 4, 3) := dk_167 0 4 (dk_at dksX9_counted_4 7 rfl rfl)
theorem dX9_counted_102 : decode cX9_counted 102 = .ok (.iconst 2, 1) := dk_5 (dk_at dksX9_counted_4 10 rfl rfl)
theorem dX9_counted_103 : decode cX9_counted 103 = .ok (.ireturn, 1) := dk_172 (dk_at dksX9_counted_4 11 rfl rfl)
abbrev cX9_ahead : ByteArray := prog_7_method_9_code
def yX9_ahead : MethodName := ⟨RX9, "ahead", "(LLogGrammar$Formula;I)I"⟩
def dkwX9_ahead_6 : List UInt8 := [167, 0, 5, 21, 4, 172]
abbrev dktX9_ahead_6 : List UInt8 := dkwX9_ahead_6 ++ []
def dkwX9_ahead_5 : List UInt8 := [28, 43, 180, 0, 96, 182, 0, 142, 153, 0, 17, 21, 4, 21, 5, 5, 184, 0, 116, 184, 0, 120]
abbrev dktX9_ahead_5 : List UInt8 := dkwX9_ahead_5 ++ dktX9_ahead_6
def dkwX9_ahead_4 : List UInt8 := [21, 5, 42, 43, 180, 0, 104, 21, 6, 182, 0, 108, 184, 0, 116, 54, 5, 132, 6, 1, 167, 255, 167, 42]
abbrev dktX9_ahead_4 : List UInt8 := dkwX9_ahead_4 ++ dktX9_ahead_5
def dkwX9_ahead_3 : List UInt8 := [180, 0, 113, 21, 6, 182, 0, 108, 184, 0, 116, 184, 0, 120, 54, 4, 29, 153, 0, 7, 4, 167, 0, 18]
abbrev dktX9_ahead_3 : List UInt8 := dkwX9_ahead_3 ++ dktX9_ahead_4
def dkwX9_ahead_2 : List UInt8 := [182, 0, 135, 153, 0, 67, 21, 4, 21, 5, 42, 29, 153, 0, 10, 43, 180, 0, 104, 167, 0, 7, 43]
abbrev dktX9_ahead_2 : List UInt8 := dkwX9_ahead_2 ++ dktX9_ahead_3
def dkwX9_ahead_1 : List UInt8 := [54, 6, 21, 6, 42, 180, 0, 18, 185, 0, 25, 1, 0, 162, 0, 81, 42, 21, 6, 28, 43, 180, 0, 96]
abbrev dktX9_ahead_1 : List UInt8 := dkwX9_ahead_1 ++ dktX9_ahead_2
def dkwX9_ahead_0 : List UInt8 := [43, 180, 0, 78, 178, 0, 139, 166, 0, 7, 4, 167, 0, 4, 3, 62, 3, 54, 4, 4, 54, 5, 28]
abbrev dktX9_ahead_0 : List UInt8 := dkwX9_ahead_0 ++ dktX9_ahead_1
theorem dksX9_ahead_0 : cX9_ahead.data.toList.drop 0 = dktX9_ahead_0 := by decide +kernel
theorem dksX9_ahead_1 : cX9_ahead.data.toList.drop 23 = dktX9_ahead_1 := dk_seg dksX9_ahead_0 23 rfl rfl
theorem dksX9_ahead_2 : cX9_ahead.data.toList.drop 47 = dktX9_ahead_2 := dk_seg dksX9_ahead_1 24 rfl rfl
theorem dksX9_ahead_3 : cX9_ahead.data.toList.drop 70 = dktX9_ahead_3 := dk_seg dksX9_ahead_2 23 rfl rfl
theorem dksX9_ahead_4 : cX9_ahead.data.toList.drop 94 = dktX9_ahead_4 := dk_seg dksX9_ahead_3 24 rfl rfl
theorem dksX9_ahead_5 : cX9_ahead.data.toList.drop 118 = dktX9_ahead_5 := dk_seg dksX9_ahead_4 24 rfl rfl
theorem dksX9_ahead_6 : cX9_ahead.data.toList.drop 140 = dktX9_ahead_6 := dk_seg dksX9_ahead_5 22 rfl rfl
theorem dX9_ahead_0 : decode cX9_ahead 0 = .ok (.aload_n 1, 1) := dk_43 (dk_at dksX9_ahead_0 0 rfl rfl)
theorem dX9_ahead_1 : decode cX9_ahead 1 = .ok (.getfield 78, 3) := dk_180 0 78 (dk_at dksX9_ahead_0 1 rfl rfl)
theorem dX9_ahead_4 : decode cX9_ahead 4 = .ok (.getstatic 139, 3) := dk_178 0 139 (dk_at dksX9_ahead_0 4 rfl rfl)
theorem dX9_ahead_7 : decode cX9_ahead 7 = .ok (.if_acmp .ne 7, 3) := dk_166 0 7 (dk_at dksX9_ahead_0 7 rfl rfl)
theorem dX9_ahead_10 : decode cX9_ahead 10 = .ok (.iconst 1, 1) := dk_4 (dk_at dksX9_ahead_0 10 rfl rfl)
theorem dX9_ahead_11 : decode cX9_ahead 11 = .ok (.goto 4, 3) := dk_167 0 4 (dk_at dksX9_ahead_0 11 rfl rfl)
theorem dX9_ahead_14 : decode cX9_ahead 14 = .ok (.iconst 0, 1) := dk_3 (dk_at dksX9_ahead_0 14 rfl rfl)
theorem dX9_ahead_15 : decode cX9_ahead 15 = .ok (.istore_n 3, 1) := dk_62 (dk_at dksX9_ahead_0 15 rfl rfl)
theorem dX9_ahead_16 : decode cX9_ahead 16 = .ok (.iconst 0, 1) := dk_3 (dk_at dksX9_ahead_0 16 rfl rfl)
theorem dX9_ahead_17 : decode cX9_ahead 17 = .ok (.istore 4, 2) := dk_54 4 (dk_at dksX9_ahead_0 17 rfl rfl)
theorem dX9_ahead_19 : decode cX9_ahead 19 = .ok (.iconst 1, 1) := dk_4 (dk_at dksX9_ahead_0 19 rfl rfl)
theorem dX9_ahead_20 : decode cX9_ahead 20 = .ok (.istore 5, 2) := dk_54 5 (dk_at dksX9_ahead_0 20 rfl rfl)
theorem dX9_ahead_22 : decode cX9_ahead 22 = .ok (.iload_n 2, 1) := dk_28 (dk_at dksX9_ahead_0 22 rfl rfl)
theorem dX9_ahead_23 : decode cX9_ahead 23 = .ok (.istore 6, 2) := dk_54 6 (dk_at dksX9_ahead_1 0 rfl rfl)
theorem dX9_ahead_25 : decode cX9_ahead 25 = .ok (.iload 6, 2) := dk_21 6 (dk_at dksX9_ahead_1 2 rfl rfl)
theorem dX9_ahead_27 : decode cX9_ahead 27 = .ok (.aload_n 0, 1) := dk_42 (dk_at dksX9_ahead_1 4 rfl rfl)
theorem dX9_ahead_28 : decode cX9_ahead 28 = .ok (.getfield 18, 3) := dk_180 0 18 (dk_at dksX9_ahead_1 5 rfl rfl)
theorem dX9_ahead_31 : decode cX9_ahead 31 = .ok (.invokeinterface 25 1, 5) := by decide +kernel
theorem dX9_ahead_36 : decode cX9_ahead 36 = .ok (.if_icmp .ge 81, 3) := dk_162 0 81 (dk_at dksX9_ahead_1 13 rfl rfl)
theorem dX9_ahead_39 : decode cX9_ahead 39 = .ok (.aload_n 0, 1) := dk_42 (dk_at dksX9_ahead_1 16 rfl rfl)
theorem dX9_ahead_40 : decode cX9_ahead 40 = .ok (.iload 6, 2) := dk_21 6 (dk_at dksX9_ahead_1 17 rfl rfl)
theorem dX9_ahead_42 : decode cX9_ahead 42 = .ok (.iload_n 2, 1) := dk_28 (dk_at dksX9_ahead_1 19 rfl rfl)
theorem dX9_ahead_43 : decode cX9_ahead 43 = .ok (.aload_n 1, 1) := dk_43 (dk_at dksX9_ahead_1 20 rfl rfl)
theorem dX9_ahead_44 : decode cX9_ahead 44 = .ok (.getfield 96, 3) := dk_180 0 96 (dk_at dksX9_ahead_1 21 rfl rfl)
theorem dX9_ahead_47 : decode cX9_ahead 47 = .ok (.invokevirtual 135, 3) := dk_182 0 135 (dk_at dksX9_ahead_2 0 rfl rfl)
theorem dX9_ahead_50 : decode cX9_ahead 50 = .ok (.ifCond .eq 67, 3) := dk_153 0 67 (dk_at dksX9_ahead_2 3 rfl rfl)
theorem dX9_ahead_53 : decode cX9_ahead 53 = .ok (.iload 4, 2) := dk_21 4 (dk_at dksX9_ahead_2 6 rfl rfl)
theorem dX9_ahead_55 : decode cX9_ahead 55 = .ok (.iload 5, 2) := dk_21 5 (dk_at dksX9_ahead_2 8 rfl rfl)
theorem dX9_ahead_57 : decode cX9_ahead 57 = .ok (.aload_n 0, 1) := dk_42 (dk_at dksX9_ahead_2 10 rfl rfl)
theorem dX9_ahead_58 : decode cX9_ahead 58 = .ok (.iload_n 3, 1) := dk_29 (dk_at dksX9_ahead_2 11 rfl rfl)
theorem dX9_ahead_59 : decode cX9_ahead 59 = .ok (.ifCond .eq 10, 3) := dk_153 0 10 (dk_at dksX9_ahead_2 12 rfl rfl)
theorem dX9_ahead_62 : decode cX9_ahead 62 = .ok (.aload_n 1, 1) := dk_43 (dk_at dksX9_ahead_2 15 rfl rfl)
theorem dX9_ahead_63 : decode cX9_ahead 63 = .ok (.getfield 104, 3) := dk_180 0 104 (dk_at dksX9_ahead_2 16 rfl rfl)
theorem dX9_ahead_66 : decode cX9_ahead 66 = .ok (.goto 7, 3) := dk_167 0 7 (dk_at dksX9_ahead_2 19 rfl rfl)
theorem dX9_ahead_69 : decode cX9_ahead 69 = .ok (.aload_n 1, 1) := dk_43 (dk_at dksX9_ahead_2 22 rfl rfl)
theorem dX9_ahead_70 : decode cX9_ahead 70 = .ok (.getfield 113, 3) := dk_180 0 113 (dk_at dksX9_ahead_3 0 rfl rfl)
theorem dX9_ahead_73 : decode cX9_ahead 73 = .ok (.iload 6, 2) := dk_21 6 (dk_at dksX9_ahead_3 3 rfl rfl)
theorem dX9_ahead_75 : decode cX9_ahead 75 = .ok (.invokevirtual 108, 3) := dk_182 0 108 (dk_at dksX9_ahead_3 5 rfl rfl)
theorem dX9_ahead_78 : decode cX9_ahead 78 = .ok (.invokestatic 116, 3) := dk_184 0 116 (dk_at dksX9_ahead_3 8 rfl rfl)
theorem dX9_ahead_81 : decode cX9_ahead 81 = .ok (.invokestatic 120, 3) := dk_184 0 120 (dk_at dksX9_ahead_3 11 rfl rfl)
theorem dX9_ahead_84 : decode cX9_ahead 84 = .ok (.istore 4, 2) := dk_54 4 (dk_at dksX9_ahead_3 14 rfl rfl)
theorem dX9_ahead_86 : decode cX9_ahead 86 = .ok (.iload_n 3, 1) := dk_29 (dk_at dksX9_ahead_3 16 rfl rfl)
theorem dX9_ahead_87 : decode cX9_ahead 87 = .ok (.ifCond .eq 7, 3) := dk_153 0 7 (dk_at dksX9_ahead_3 17 rfl rfl)
theorem dX9_ahead_90 : decode cX9_ahead 90 = .ok (.iconst 1, 1) := dk_4 (dk_at dksX9_ahead_3 20 rfl rfl)
theorem dX9_ahead_91 : decode cX9_ahead 91 = .ok (.goto 18, 3) := dk_167 0 18 (dk_at dksX9_ahead_3 21 rfl rfl)
theorem dX9_ahead_94 : decode cX9_ahead 94 = .ok (.iload 5, 2) := dk_21 5 (dk_at dksX9_ahead_4 0 rfl rfl)
theorem dX9_ahead_96 : decode cX9_ahead 96 = .ok (.aload_n 0, 1) := dk_42 (dk_at dksX9_ahead_4 2 rfl rfl)
theorem dX9_ahead_97 : decode cX9_ahead 97 = .ok (.aload_n 1, 1) := dk_43 (dk_at dksX9_ahead_4 3 rfl rfl)
theorem dX9_ahead_98 : decode cX9_ahead 98 = .ok (.getfield 104, 3) := dk_180 0 104 (dk_at dksX9_ahead_4 4 rfl rfl)
theorem dX9_ahead_101 : decode cX9_ahead 101 = .ok (.iload 6, 2) := dk_21 6 (dk_at dksX9_ahead_4 7 rfl rfl)
theorem dX9_ahead_103 : decode cX9_ahead 103 = .ok (.invokevirtual 108, 3) := dk_182 0 108 (dk_at dksX9_ahead_4 9 rfl rfl)
theorem dX9_ahead_106 : decode cX9_ahead 106 = .ok (.invokestatic 116, 3) := dk_184 0 116 (dk_at dksX9_ahead_4 12 rfl rfl)
theorem dX9_ahead_109 : decode cX9_ahead 109 = .ok (.istore 5, 2) := dk_54 5 (dk_at dksX9_ahead_4 15 rfl rfl)
theorem dX9_ahead_111 : decode cX9_ahead 111 = .ok (.iinc 6 1, 3) := dk_132 6 1 (dk_at dksX9_ahead_4 17 rfl rfl)
theorem dX9_ahead_114 : decode cX9_ahead 114 = .ok (.goto (-89), 3) := dk_167 255 167 (dk_at dksX9_ahead_4 20 rfl rfl)
theorem dX9_ahead_117 : decode cX9_ahead 117 = .ok (.aload_n 0, 1) := dk_42 (dk_at dksX9_ahead_4 23 rfl rfl)
theorem dX9_ahead_118 : decode cX9_ahead 118 = .ok (.iload_n 2, 1) := dk_28 (dk_at dksX9_ahead_5 0 rfl rfl)
theorem dX9_ahead_119 : decode cX9_ahead 119 = .ok (.aload_n 1, 1) := dk_43 (dk_at dksX9_ahead_5 1 rfl rfl)
theorem dX9_ahead_120 : decode cX9_ahead 120 = .ok (.getfield 96, 3) := dk_180 0 96 (dk_at dksX9_ahead_5 2 rfl rfl)
theorem dX9_ahead_123 : decode cX9_ahead 123 = .ok (.invokevirtual 142, 3) := dk_182 0 142 (dk_at dksX9_ahead_5 5 rfl rfl)
theorem dX9_ahead_126 : decode cX9_ahead 126 = .ok (.ifCond .eq 17, 3) := dk_153 0 17 (dk_at dksX9_ahead_5 8 rfl rfl)
theorem dX9_ahead_129 : decode cX9_ahead 129 = .ok (.iload 4, 2) := dk_21 4 (dk_at dksX9_ahead_5 11 rfl rfl)
theorem dX9_ahead_131 : decode cX9_ahead 131 = .ok (.iload 5, 2) := dk_21 5 (dk_at dksX9_ahead_5 13 rfl rfl)
theorem dX9_ahead_133 : decode cX9_ahead 133 = .ok (.iconst 2, 1) := dk_5 (dk_at dksX9_ahead_5 15 rfl rfl)
theorem dX9_ahead_134 : decode cX9_ahead 134 = .ok (.invokestatic 116, 3) := dk_184 0 116 (dk_at dksX9_ahead_5 16 rfl rfl)
theorem dX9_ahead_137 : decode cX9_ahead 137 = .ok (.invokestatic 120, 3) := dk_184 0 120 (dk_at dksX9_ahead_5 19 rfl rfl)
theorem dX9_ahead_140 : decode cX9_ahead 140 = .ok (.goto 5, 3) := dk_167 0 5 (dk_at dksX9_ahead_6 0 rfl rfl)
theorem dX9_ahead_143 : decode cX9_ahead 143 = .ok (.iload 4, 2) := dk_21 4 (dk_at dksX9_ahead_6 3 rfl rfl)
theorem dX9_ahead_145 : decode cX9_ahead 145 = .ok (.ireturn, 1) := dk_172 (dk_at dksX9_ahead_6 5 rfl rfl)
abbrev cX9_mayCome : ByteArray := prog_7_method_6_code
def yX9_mayCome : MethodName := ⟨RX9, "mayCome", "(II)Z"⟩
def dkwX9_mayCome_2 : List UInt8 := [3, 172]
abbrev dktX9_mayCome_2 : List UInt8 := dkwX9_mayCome_2 ++ []
def dkwX9_mayCome_1 : List UInt8 := [180, 0, 18, 27, 185, 0, 39, 2, 0, 192, 0, 43, 180, 0, 62, 100, 28, 163, 0, 7, 4, 167, 0, 4]
abbrev dktX9_mayCome_1 : List UInt8 := dkwX9_mayCome_1 ++ dktX9_mayCome_2
def dkwX9_mayCome_0 : List UInt8 := [42, 180, 0, 3, 180, 0, 71, 153, 0, 40, 28, 2, 159, 0, 31, 42, 180, 0, 3, 180, 0, 75, 42]
abbrev dktX9_mayCome_0 : List UInt8 := dkwX9_mayCome_0 ++ dktX9_mayCome_1
theorem dksX9_mayCome_0 : cX9_mayCome.data.toList.drop 0 = dktX9_mayCome_0 := by decide +kernel
theorem dksX9_mayCome_1 : cX9_mayCome.data.toList.drop 23 = dktX9_mayCome_1 := dk_seg dksX9_mayCome_0 23 rfl rfl
theorem dksX9_mayCome_2 : cX9_mayCome.data.toList.drop 47 = dktX9_mayCome_2 := dk_seg dksX9_mayCome_1 24 rfl rfl
theorem dX9_mayCome_0 : decode cX9_mayCome 0 = .ok (.aload_n 0, 1) := dk_42 (dk_at dksX9_mayCome_0 0 rfl rfl)
theorem dX9_mayCome_1 : decode cX9_mayCome 1 = .ok (.getfield 3, 3) := dk_180 0 3 (dk_at dksX9_mayCome_0 1 rfl rfl)
theorem dX9_mayCome_4 : decode cX9_mayCome 4 = .ok (.getfield 71, 3) := dk_180 0 71 (dk_at dksX9_mayCome_0 4 rfl rfl)
theorem dX9_mayCome_7 : decode cX9_mayCome 7 = .ok (.ifCond .eq 40, 3) := dk_153 0 40 (dk_at dksX9_mayCome_0 7 rfl rfl)
theorem dX9_mayCome_10 : decode cX9_mayCome 10 = .ok (.iload_n 2, 1) := dk_28 (dk_at dksX9_mayCome_0 10 rfl rfl)
theorem dX9_mayCome_11 : decode cX9_mayCome 11 = .ok (.iconst (-1), 1) := dk_2 (dk_at dksX9_mayCome_0 11 rfl rfl)
theorem dX9_mayCome_12 : decode cX9_mayCome 12 = .ok (.if_icmp .eq 31, 3) := dk_159 0 31 (dk_at dksX9_mayCome_0 12 rfl rfl)
theorem dX9_mayCome_15 : decode cX9_mayCome 15 = .ok (.aload_n 0, 1) := dk_42 (dk_at dksX9_mayCome_0 15 rfl rfl)
theorem dX9_mayCome_16 : decode cX9_mayCome 16 = .ok (.getfield 3, 3) := dk_180 0 3 (dk_at dksX9_mayCome_0 16 rfl rfl)
theorem dX9_mayCome_19 : decode cX9_mayCome 19 = .ok (.getfield 75, 3) := dk_180 0 75 (dk_at dksX9_mayCome_0 19 rfl rfl)
theorem dX9_mayCome_22 : decode cX9_mayCome 22 = .ok (.aload_n 0, 1) := dk_42 (dk_at dksX9_mayCome_0 22 rfl rfl)
theorem dX9_mayCome_23 : decode cX9_mayCome 23 = .ok (.getfield 18, 3) := dk_180 0 18 (dk_at dksX9_mayCome_1 0 rfl rfl)
theorem dX9_mayCome_26 : decode cX9_mayCome 26 = .ok (.iload_n 1, 1) := dk_27 (dk_at dksX9_mayCome_1 3 rfl rfl)
theorem dX9_mayCome_27 : decode cX9_mayCome 27 = .ok (.invokeinterface 39 2, 5) := by decide +kernel
theorem dX9_mayCome_32 : decode cX9_mayCome 32 = .ok (.checkcast 43, 3) := dk_192 0 43 (dk_at dksX9_mayCome_1 9 rfl rfl)
theorem dX9_mayCome_35 : decode cX9_mayCome 35 = .ok (.getfield 62, 3) := dk_180 0 62 (dk_at dksX9_mayCome_1 12 rfl rfl)
theorem dX9_mayCome_38 : decode cX9_mayCome 38 = .ok (.isub, 1) := dk_100 (dk_at dksX9_mayCome_1 15 rfl rfl)
theorem dX9_mayCome_39 : decode cX9_mayCome 39 = .ok (.iload_n 2, 1) := dk_28 (dk_at dksX9_mayCome_1 16 rfl rfl)
theorem dX9_mayCome_40 : decode cX9_mayCome 40 = .ok (.if_icmp .gt 7, 3) := dk_163 0 7 (dk_at dksX9_mayCome_1 17 rfl rfl)
theorem dX9_mayCome_43 : decode cX9_mayCome 43 = .ok (.iconst 1, 1) := dk_4 (dk_at dksX9_mayCome_1 20 rfl rfl)
theorem dX9_mayCome_44 : decode cX9_mayCome 44 = .ok (.goto 4, 3) := dk_167 0 4 (dk_at dksX9_mayCome_1 21 rfl rfl)
theorem dX9_mayCome_47 : decode cX9_mayCome 47 = .ok (.iconst 0, 1) := dk_3 (dk_at dksX9_mayCome_2 0 rfl rfl)
theorem dX9_mayCome_48 : decode cX9_mayCome 48 = .ok (.ireturn, 1) := dk_172 (dk_at dksX9_mayCome_2 1 rfl rfl)
abbrev cX9_init : ByteArray := prog_7_method_1_code
def yX9_init : MethodName := ⟨RX9, "<init>", "(LLogGrammar;Ljava/util/List;)V"⟩
def dkwX9_init_1 : List UInt8 := [181, 0, 22, 42, 44, 185, 0, 25, 1, 0, 16, 80, 197, 0, 31, 2, 181, 0, 33, 177]
abbrev dktX9_init_1 : List UInt8 := dkwX9_init_1 ++ []
def dkwX9_init_0 : List UInt8 := [42, 43, 181, 0, 3, 42, 183, 0, 9, 42, 187, 0, 15, 89, 183, 0, 17, 181, 0, 18, 42, 44]
abbrev dktX9_init_0 : List UInt8 := dkwX9_init_0 ++ dktX9_init_1
theorem dksX9_init_0 : cX9_init.data.toList.drop 0 = dktX9_init_0 := by decide +kernel
theorem dksX9_init_1 : cX9_init.data.toList.drop 22 = dktX9_init_1 := dk_seg dksX9_init_0 22 rfl rfl
theorem dX9_init_0 : decode cX9_init 0 = .ok (.aload_n 0, 1) := dk_42 (dk_at dksX9_init_0 0 rfl rfl)
theorem dX9_init_1 : decode cX9_init 1 = .ok (.aload_n 1, 1) := dk_43 (dk_at dksX9_init_0 1 rfl rfl)
theorem dX9_init_2 : decode cX9_init 2 = .ok (.putfield 3, 3) := dk_181 0 3 (dk_at dksX9_init_0 2 rfl rfl)
theorem dX9_init_5 : decode cX9_init 5 = .ok (.aload_n 0, 1) := dk_42 (dk_at dksX9_init_0 5 rfl rfl)
theorem dX9_init_6 : decode cX9_init 6 = .ok (.invokespecial 9, 3) := dk_183 0 9 (dk_at dksX9_init_0 6 rfl rfl)
theorem dX9_init_9 : decode cX9_init 9 = .ok (.aload_n 0, 1) := dk_42 (dk_at dksX9_init_0 9 rfl rfl)
theorem dX9_init_10 : decode cX9_init 10 = .ok (.new 15, 3) := dk_187 0 15 (dk_at dksX9_init_0 10 rfl rfl)
theorem dX9_init_13 : decode cX9_init 13 = .ok (.dup, 1) := dk_89 (dk_at dksX9_init_0 13 rfl rfl)
theorem dX9_init_14 : decode cX9_init 14 = .ok (.invokespecial 17, 3) := dk_183 0 17 (dk_at dksX9_init_0 14 rfl rfl)
theorem dX9_init_17 : decode cX9_init 17 = .ok (.putfield 18, 3) := dk_181 0 18 (dk_at dksX9_init_0 17 rfl rfl)
theorem dX9_init_20 : decode cX9_init 20 = .ok (.aload_n 0, 1) := dk_42 (dk_at dksX9_init_0 20 rfl rfl)
theorem dX9_init_21 : decode cX9_init 21 = .ok (.aload_n 2, 1) := dk_44 (dk_at dksX9_init_0 21 rfl rfl)
theorem dX9_init_22 : decode cX9_init 22 = .ok (.putfield 22, 3) := dk_181 0 22 (dk_at dksX9_init_1 0 rfl rfl)
theorem dX9_init_25 : decode cX9_init 25 = .ok (.aload_n 0, 1) := dk_42 (dk_at dksX9_init_1 3 rfl rfl)
theorem dX9_init_26 : decode cX9_init 26 = .ok (.aload_n 2, 1) := dk_44 (dk_at dksX9_init_1 4 rfl rfl)
theorem dX9_init_27 : decode cX9_init 27 = .ok (.invokeinterface 25 1, 5) := by decide +kernel
theorem dX9_init_32 : decode cX9_init 32 = .ok (.bipush 80, 2) := dk_16 80 (dk_at dksX9_init_1 10 rfl rfl)
theorem dX9_init_34 : decode cX9_init 34 = .ok (.multianewarray 31 2, 4) := by decide +kernel
theorem dX9_init_38 : decode cX9_init 38 = .ok (.putfield 33, 3) := dk_181 0 33 (dk_at dksX9_init_1 16 rfl rfl)
theorem dX9_init_41 : decode cX9_init 41 = .ok (.return_, 1) := dk_177 (dk_at dksX9_init_1 19 rfl rfl)
theorem q108 : (Jvm.Cond.initialized "LogGrammar$Row") ∈ lw_all := lw_g (lw_at lw_m1 36 rfl) rfl
theorem q214 : (Jvm.Cond.selects "LogGrammar$Row" ({ cls := "java/lang/Object", name := "getClass", desc := "()Ljava/lang/Class;" } : Jvm.MethodName) ({ cls := "java/lang/Object", name := "getClass", desc := "()Ljava/lang/Class;" } : Jvm.MethodName)) ∈ lw_all := lw_g (lw_at lw_m1 142 rfl) rfl
theorem q251 : (Jvm.Cond.fieldLinkNest "LogGrammar$Row" (75 : Nat) "LogGrammar" "present" "I" "LogGrammar") ∈ lw_tbl := lw_at lw_m1 179 rfl
theorem q254 : (Jvm.Cond.fieldLinkNest "LogGrammar$Row" (71 : Nat) "LogGrammar" "isOpen" "Z" "LogGrammar") ∈ lw_tbl := lw_at lw_m1 182 rfl
theorem q457 : (Jvm.Cond.instanceMethod ({ cls := "LogGrammar$Row", name := "lay", desc := "(Ljava/util/List;I)V" } : Jvm.MethodName)) ∈ lw_all := lw_g (lw_at lw_m2 145 rfl) rfl
theorem q458 : (Jvm.Cond.selects "LogGrammar$Row" ({ cls := "LogGrammar$Row", name := "lay", desc := "(Ljava/util/List;I)V" } : Jvm.MethodName) ({ cls := "LogGrammar$Row", name := "lay", desc := "(Ljava/util/List;I)V" } : Jvm.MethodName)) ∈ lw_all := lw_g (lw_at lw_m2 146 rfl) rfl
theorem q459 : (Jvm.Cond.code ({ cls := "LogGrammar$Row", name := "lay", desc := "(Ljava/util/List;I)V" } : Jvm.MethodName) prog_7_method_2_code (5 : Nat) (Option.none : Option Jvm.ClassFile.FieldType)) ∈ lw_all := lw_g (lw_at lw_m2 147 rfl) rfl
theorem q460 : (Jvm.Cond.interfaceEntry "LogGrammar$Row" (36 : Nat)) ∈ lw_tbl := lw_at lw_m2 148 rfl
theorem q461 : (Jvm.Cond.methodLink "LogGrammar$Row" (36 : Nat) ({ cls := "java/util/List", name := "clear", desc := "()V" } : Jvm.MethodName)) ∈ lw_all := lw_g (lw_at lw_m2 149 rfl) rfl
theorem q462 : (Jvm.Cond.interfaceEntry "LogGrammar$Row" (25 : Nat)) ∈ lw_tbl := lw_at lw_m2 150 rfl
theorem q463 : (Jvm.Cond.methodLink "LogGrammar$Row" (25 : Nat) ({ cls := "java/util/List", name := "size", desc := "()I" } : Jvm.MethodName)) ∈ lw_all := lw_g (lw_at lw_m2 151 rfl) rfl
theorem q464 : (Jvm.Cond.interfaceEntry "LogGrammar$Row" (39 : Nat)) ∈ lw_tbl := lw_at lw_m2 152 rfl
theorem q465 : (Jvm.Cond.methodLink "LogGrammar$Row" (39 : Nat) ({ cls := "java/util/List", name := "get", desc := "(I)Ljava/lang/Object;" } : Jvm.MethodName)) ∈ lw_all := lw_g (lw_at lw_m2 153 rfl) rfl
theorem q466 : (Jvm.Cond.classLink "LogGrammar$Row" (43 : Nat) "LogGrammar$Event") ∈ lw_all := lw_g (lw_at lw_m2 154 rfl) rfl
theorem q467 : (Jvm.Cond.interfaceEntry "LogGrammar$Row" (49 : Nat)) ∈ lw_tbl := lw_at lw_m2 155 rfl
theorem q468 : (Jvm.Cond.methodLink "LogGrammar$Row" (49 : Nat) ({ cls := "java/util/List", name := "add", desc := "(Ljava/lang/Object;)Z" } : Jvm.MethodName)) ∈ lw_all := lw_g (lw_at lw_m2 156 rfl) rfl
theorem q470 : (Jvm.Cond.instanceMethod ({ cls := "LogGrammar$Row", name := "fill", desc := "()V" } : Jvm.MethodName)) ∈ lw_all := lw_g (lw_at lw_m2 158 rfl) rfl
theorem q471 : (Jvm.Cond.selects "LogGrammar$Row" ({ cls := "LogGrammar$Row", name := "fill", desc := "()V" } : Jvm.MethodName) ({ cls := "LogGrammar$Row", name := "fill", desc := "()V" } : Jvm.MethodName)) ∈ lw_all := lw_g (lw_at lw_m2 159 rfl) rfl
theorem q472 : (Jvm.Cond.code ({ cls := "LogGrammar$Row", name := "fill", desc := "()V" } : Jvm.MethodName) prog_7_method_3_code (4 : Nat) (Option.none : Option Jvm.ClassFile.FieldType)) ∈ lw_all := lw_g (lw_at lw_m2 160 rfl) rfl
theorem q473 : (Jvm.Cond.classLink "LogGrammar$Row" (53 : Nat) "LogGrammar$Formula") ∈ lw_all := lw_g (lw_at lw_m2 161 rfl) rfl
theorem q474 : (Jvm.Cond.methodLink "LogGrammar$Row" (58 : Nat) ({ cls := "LogGrammar$Row", name := "answer", desc := "(LLogGrammar$Formula;I)I" } : Jvm.MethodName)) ∈ lw_all := lw_g (lw_at lw_m2 162 rfl) rfl
theorem q475 : (Jvm.Cond.privateMethod ({ cls := "LogGrammar$Row", name := "answer", desc := "(LLogGrammar$Formula;I)I" } : Jvm.MethodName)) ∈ lw_tbl := lw_at lw_m2 163 rfl
theorem q476 : (Jvm.Cond.instanceMethod ({ cls := "LogGrammar$Row", name := "answer", desc := "(LLogGrammar$Formula;I)I" } : Jvm.MethodName)) ∈ lw_all := lw_g (lw_at lw_m2 164 rfl) rfl
theorem q477 : (Jvm.Cond.instantiable "LogGrammar$Row" (4 : Nat)) ∈ lw_all := lw_g (lw_at lw_m2 165 rfl) rfl
theorem q478 : (Jvm.Cond.code ({ cls := "LogGrammar$Row", name := "answer", desc := "(LLogGrammar$Formula;I)I" } : Jvm.MethodName) prog_7_method_7_code (3 : Nat) (Option.some Jvm.ClassFile.FieldType.int)) ∈ lw_all := lw_g (lw_at lw_m2 166 rfl) rfl
theorem q479 : (Jvm.Cond.methodLink "LogGrammar$Row" (82 : Nat) ({ cls := "LogGrammar$Sort", name := "ordinal", desc := "()I" } : Jvm.MethodName)) ∈ lw_all := lw_g (lw_at lw_m2 167 rfl) rfl
theorem q485 : (Jvm.Cond.methodLink "LogGrammar$Row" (99 : Nat) ({ cls := "java/lang/Integer", name := "signum", desc := "(I)I" } : Jvm.MethodName)) ∈ lw_all := lw_g (lw_at lw_m2 173 rfl) rfl
theorem q488 : (Jvm.Cond.methodLink "LogGrammar$Row" (108 : Nat) ({ cls := "LogGrammar$Row", name := "at", desc := "(LLogGrammar$Formula;I)I" } : Jvm.MethodName)) ∈ lw_all := lw_g (lw_at lw_m2 176 rfl) rfl
theorem q489 : (Jvm.Cond.instanceMethod ({ cls := "LogGrammar$Row", name := "at", desc := "(LLogGrammar$Formula;I)I" } : Jvm.MethodName)) ∈ lw_all := lw_g (lw_at lw_m2 177 rfl) rfl
theorem q490 : (Jvm.Cond.selects "LogGrammar$Row" ({ cls := "LogGrammar$Row", name := "at", desc := "(LLogGrammar$Formula;I)I" } : Jvm.MethodName) ({ cls := "LogGrammar$Row", name := "at", desc := "(LLogGrammar$Formula;I)I" } : Jvm.MethodName)) ∈ lw_all := lw_g (lw_at lw_m2 178 rfl) rfl
theorem q491 : (Jvm.Cond.code ({ cls := "LogGrammar$Row", name := "at", desc := "(LLogGrammar$Formula;I)I" } : Jvm.MethodName) prog_7_method_4_code (3 : Nat) (Option.some Jvm.ClassFile.FieldType.int)) ∈ lw_all := lw_g (lw_at lw_m2 179 rfl) rfl
theorem q492 : (Jvm.Cond.methodLinkNest "LogGrammar$Row" (110 : Nat) ({ cls := "LogGrammar", name := "negated", desc := "(I)I" } : Jvm.MethodName) "LogGrammar") ∈ lw_tbl := lw_at lw_m2 180 rfl
theorem q495 : (Jvm.Cond.methodLinkNest "LogGrammar$Row" (116 : Nat) ({ cls := "LogGrammar", name := "and", desc := "(II)I" } : Jvm.MethodName) "LogGrammar") ∈ lw_tbl := lw_at lw_m2 183 rfl
theorem q498 : (Jvm.Cond.methodLinkNest "LogGrammar$Row" (120 : Nat) ({ cls := "LogGrammar", name := "or", desc := "(II)I" } : Jvm.MethodName) "LogGrammar") ∈ lw_tbl := lw_at lw_m2 186 rfl
theorem q501 : (Jvm.Cond.methodLink "LogGrammar$Row" (123 : Nat) ({ cls := "LogGrammar$Row", name := "behind", desc := "(LLogGrammar$Formula;I)I" } : Jvm.MethodName)) ∈ lw_all := lw_g (lw_at lw_m2 189 rfl) rfl
theorem q502 : (Jvm.Cond.privateMethod ({ cls := "LogGrammar$Row", name := "behind", desc := "(LLogGrammar$Formula;I)I" } : Jvm.MethodName)) ∈ lw_tbl := lw_at lw_m2 190 rfl
theorem q503 : (Jvm.Cond.instanceMethod ({ cls := "LogGrammar$Row", name := "behind", desc := "(LLogGrammar$Formula;I)I" } : Jvm.MethodName)) ∈ lw_all := lw_g (lw_at lw_m2 191 rfl) rfl
theorem q504 : (Jvm.Cond.code ({ cls := "LogGrammar$Row", name := "behind", desc := "(LLogGrammar$Formula;I)I" } : Jvm.MethodName) prog_7_method_8_code (7 : Nat) (Option.some Jvm.ClassFile.FieldType.int)) ∈ lw_all := lw_g (lw_at lw_m2 192 rfl) rfl
theorem q505 : (Jvm.Cond.fieldLink "LogGrammar$Row" (132 : Nat) "LogGrammar$Sort" "ONCE" "LLogGrammar$Sort;") ∈ lw_all := lw_g (lw_at lw_m2 193 rfl) rfl
theorem q507 : (Jvm.Cond.methodLink "LogGrammar$Row" (135 : Nat) ({ cls := "LogGrammar$Row", name := "isNear", desc := "(III)Z" } : Jvm.MethodName)) ∈ lw_all := lw_g (lw_at lw_m2 195 rfl) rfl
theorem q508 : (Jvm.Cond.privateMethod ({ cls := "LogGrammar$Row", name := "isNear", desc := "(III)Z" } : Jvm.MethodName)) ∈ lw_tbl := lw_at lw_m2 196 rfl
theorem q509 : (Jvm.Cond.instanceMethod ({ cls := "LogGrammar$Row", name := "isNear", desc := "(III)Z" } : Jvm.MethodName)) ∈ lw_all := lw_g (lw_at lw_m2 197 rfl) rfl
theorem q510 : (Jvm.Cond.code ({ cls := "LogGrammar$Row", name := "isNear", desc := "(III)Z" } : Jvm.MethodName) prog_7_method_5_code (4 : Nat) (Option.some Jvm.ClassFile.FieldType.boolean)) ∈ lw_all := lw_g (lw_at lw_m2 198 rfl) rfl
theorem q511 : (Jvm.Cond.methodLink "LogGrammar$Row" (65 : Nat) ({ cls := "java/lang/Math", name := "abs", desc := "(I)I" } : Jvm.MethodName)) ∈ lw_all := lw_g (lw_at lw_m2 199 rfl) rfl
theorem q514 : (Jvm.Cond.methodLink "LogGrammar$Row" (126 : Nat) ({ cls := "LogGrammar$Row", name := "counted", desc := "(LLogGrammar$Formula;I)I" } : Jvm.MethodName)) ∈ lw_all := lw_g (lw_at lw_m2 202 rfl) rfl
theorem q515 : (Jvm.Cond.privateMethod ({ cls := "LogGrammar$Row", name := "counted", desc := "(LLogGrammar$Formula;I)I" } : Jvm.MethodName)) ∈ lw_tbl := lw_at lw_m2 203 rfl
theorem q516 : (Jvm.Cond.instanceMethod ({ cls := "LogGrammar$Row", name := "counted", desc := "(LLogGrammar$Formula;I)I" } : Jvm.MethodName)) ∈ lw_all := lw_g (lw_at lw_m2 204 rfl) rfl
theorem q517 : (Jvm.Cond.code ({ cls := "LogGrammar$Row", name := "counted", desc := "(LLogGrammar$Formula;I)I" } : Jvm.MethodName) prog_7_method_10_code (7 : Nat) (Option.some Jvm.ClassFile.FieldType.int)) ∈ lw_all := lw_g (lw_at lw_m2 205 rfl) rfl
theorem q518 : (Jvm.Cond.methodLink "LogGrammar$Row" (129 : Nat) ({ cls := "LogGrammar$Row", name := "ahead", desc := "(LLogGrammar$Formula;I)I" } : Jvm.MethodName)) ∈ lw_all := lw_g (lw_at lw_m2 206 rfl) rfl
theorem q519 : (Jvm.Cond.privateMethod ({ cls := "LogGrammar$Row", name := "ahead", desc := "(LLogGrammar$Formula;I)I" } : Jvm.MethodName)) ∈ lw_tbl := lw_at lw_m2 207 rfl
theorem q520 : (Jvm.Cond.instanceMethod ({ cls := "LogGrammar$Row", name := "ahead", desc := "(LLogGrammar$Formula;I)I" } : Jvm.MethodName)) ∈ lw_all := lw_g (lw_at lw_m2 208 rfl) rfl
theorem q521 : (Jvm.Cond.code ({ cls := "LogGrammar$Row", name := "ahead", desc := "(LLogGrammar$Formula;I)I" } : Jvm.MethodName) prog_7_method_9_code (7 : Nat) (Option.some Jvm.ClassFile.FieldType.int)) ∈ lw_all := lw_g (lw_at lw_m2 209 rfl) rfl
theorem q522 : (Jvm.Cond.fieldLink "LogGrammar$Row" (139 : Nat) "LogGrammar$Sort" "SOON" "LLogGrammar$Sort;") ∈ lw_all := lw_g (lw_at lw_m2 210 rfl) rfl
theorem q524 : (Jvm.Cond.methodLink "LogGrammar$Row" (142 : Nat) ({ cls := "LogGrammar$Row", name := "mayCome", desc := "(II)Z" } : Jvm.MethodName)) ∈ lw_all := lw_g (lw_at lw_m2 212 rfl) rfl
theorem q525 : (Jvm.Cond.privateMethod ({ cls := "LogGrammar$Row", name := "mayCome", desc := "(II)Z" } : Jvm.MethodName)) ∈ lw_tbl := lw_at lw_m2 213 rfl
theorem q526 : (Jvm.Cond.instanceMethod ({ cls := "LogGrammar$Row", name := "mayCome", desc := "(II)Z" } : Jvm.MethodName)) ∈ lw_all := lw_g (lw_at lw_m2 214 rfl) rfl
theorem q527 : (Jvm.Cond.code ({ cls := "LogGrammar$Row", name := "mayCome", desc := "(II)Z" } : Jvm.MethodName) prog_7_method_6_code (3 : Nat) (Option.some Jvm.ClassFile.FieldType.boolean)) ∈ lw_all := lw_g (lw_at lw_m2 215 rfl) rfl
theorem q551 : (Jvm.Cond.selects "LogGrammar$Row" ({ cls := "java/lang/Object", name := "equals", desc := "(Ljava/lang/Object;)Z" } : Jvm.MethodName) ({ cls := "java/lang/Object", name := "equals", desc := "(Ljava/lang/Object;)Z" } : Jvm.MethodName)) ∈ lw_all := lw_g (lw_at lw_m2 239 rfl) rfl
theorem q787 : (Jvm.Cond.fieldLinkNest "LogGrammar$Row" (62 : Nat) "LogGrammar$Event" "time" "I" "LogGrammar") ∈ lw_tbl := lw_at lw_m3 235 rfl
theorem q792 : (Jvm.Cond.fieldLinkNest "LogGrammar$Row" (87 : Nat) "LogGrammar$Event" "kind" "I" "LogGrammar") ∈ lw_tbl := lw_at lw_m4 0 rfl
theorem q795 : (Jvm.Cond.fieldLinkNest "LogGrammar$Row" (45 : Nat) "LogGrammar$Event" "id" "I" "LogGrammar") ∈ lw_tbl := lw_at lw_m4 3 rfl
theorem q799 : (Jvm.Cond.fieldLinkNest "LogGrammar$Row" (93 : Nat) "LogGrammar$Event" "value" "I" "LogGrammar") ∈ lw_tbl := lw_at lw_m4 7 rfl
theorem q1249 : (Jvm.Cond.fieldLinkNest "LogGrammar$Row" (78 : Nat) "LogGrammar$Formula" "sort" "LLogGrammar$Sort;" "LogGrammar") ∈ lw_tbl := lw_at lw_m5 217 rfl
theorem q1251 : (Jvm.Cond.fieldLinkNest "LogGrammar$Row" (90 : Nat) "LogGrammar$Formula" "one" "I" "LogGrammar") ∈ lw_tbl := lw_at lw_m5 219 rfl
theorem q1253 : (Jvm.Cond.fieldLinkNest "LogGrammar$Row" (96 : Nat) "LogGrammar$Formula" "two" "I" "LogGrammar") ∈ lw_tbl := lw_at lw_m5 221 rfl
theorem q1255 : (Jvm.Cond.fieldLinkNest "LogGrammar$Row" (104 : Nat) "LogGrammar$Formula" "first" "LLogGrammar$Formula;" "LogGrammar") ∈ lw_tbl := lw_at lw_m5 223 rfl
theorem q1257 : (Jvm.Cond.fieldLinkNest "LogGrammar$Row" (113 : Nat) "LogGrammar$Formula" "second" "LLogGrammar$Formula;" "LogGrammar") ∈ lw_tbl := lw_at lw_m5 225 rfl
theorem q1261 : (Jvm.Cond.fieldLinkNest "LogGrammar$Row" (55 : Nat) "LogGrammar$Formula" "at" "I" "LogGrammar") ∈ lw_tbl := lw_at lw_m5 229 rfl
theorem q1412 : (Jvm.Cond.instanceMethod ({ cls := "LogGrammar$Row", name := "<init>", desc := "(LLogGrammar;Ljava/util/List;)V" } : Jvm.MethodName)) ∈ lw_all := lw_g (lw_at lw_m6 140 rfl) rfl
theorem q1413 : (Jvm.Cond.code ({ cls := "LogGrammar$Row", name := "<init>", desc := "(LLogGrammar;Ljava/util/List;)V" } : Jvm.MethodName) prog_7_method_1_code (3 : Nat) (Option.none : Option Jvm.ClassFile.FieldType)) ∈ lw_all := lw_g (lw_at lw_m6 141 rfl) rfl
theorem q1414 : (Jvm.Cond.methodLink "LogGrammar$Row" (9 : Nat) ({ cls := "java/lang/Object", name := "<init>", desc := "()V" } : Jvm.MethodName)) ∈ lw_all := lw_g (lw_at lw_m6 142 rfl) rfl
theorem q1415 : (Jvm.Cond.classLink "LogGrammar$Row" (15 : Nat) "java/util/ArrayList") ∈ lw_all := lw_g (lw_at lw_m6 143 rfl) rfl
theorem q1416 : (Jvm.Cond.methodLink "LogGrammar$Row" (17 : Nat) ({ cls := "java/util/ArrayList", name := "<init>", desc := "()V" } : Jvm.MethodName)) ∈ lw_all := lw_g (lw_at lw_m6 144 rfl) rfl
theorem q1417 : (Jvm.Cond.classLink "LogGrammar$Row" (31 : Nat) "[[I") ∈ lw_all := lw_g (lw_at lw_m6 145 rfl) rfl
theorem q1419 : (Jvm.Cond.fieldLink "LogGrammar$Row" (18 : Nat) "LogGrammar$Row" "row" "Ljava/util/List;") ∈ lw_all := lw_g (lw_at lw_m6 147 rfl) rfl
theorem q1421 : (Jvm.Cond.fieldLink "LogGrammar$Row" (22 : Nat) "LogGrammar$Row" "parts" "Ljava/util/List;") ∈ lw_all := lw_g (lw_at lw_m6 149 rfl) rfl
theorem q1422 : (Jvm.Cond.fieldLink "LogGrammar$Row" (33 : Nat) "LogGrammar$Row" "answers" "[[I") ∈ lw_all := lw_g (lw_at lw_m6 150 rfl) rfl
theorem q1424 : (Jvm.Cond.fieldLink "LogGrammar$Row" (3 : Nat) "LogGrammar$Row" "this$0" "LLogGrammar;") ∈ lw_all := lw_g (lw_at lw_m6 152 rfl) rfl
theorem q1425 : (Jvm.Cond.laysFinal "LogGrammar$Row" "LogGrammar$Row" "row" "Ljava/util/List;") ∈ lw_all := lw_g (lw_at lw_m6 153 rfl) rfl
theorem q1426 : (Jvm.Cond.soleField "LogGrammar$Row" "row") ∈ lw_all := lw_g (lw_at lw_m6 154 rfl) rfl
theorem q1427 : (Jvm.Cond.laysFinal "LogGrammar$Row" "LogGrammar$Row" "parts" "Ljava/util/List;") ∈ lw_all := lw_g (lw_at lw_m6 155 rfl) rfl
theorem q1428 : (Jvm.Cond.soleField "LogGrammar$Row" "parts") ∈ lw_all := lw_g (lw_at lw_m6 156 rfl) rfl
theorem q1429 : (Jvm.Cond.laysFinal "LogGrammar$Row" "LogGrammar$Row" "answers" "[[I") ∈ lw_all := lw_g (lw_at lw_m6 157 rfl) rfl
theorem q1430 : (Jvm.Cond.soleField "LogGrammar$Row" "answers") ∈ lw_all := lw_g (lw_at lw_m6 158 rfl) rfl
theorem q1431 : (Jvm.Cond.laysFinal "LogGrammar$Row" "LogGrammar$Row" "this$0" "LLogGrammar;") ∈ lw_all := lw_g (lw_at lw_m6 159 rfl) rfl
theorem q1432 : (Jvm.Cond.soleField "LogGrammar$Row" "this$0") ∈ lw_all := lw_g (lw_at lw_m6 160 rfl) rfl
theorem q1433 : (Jvm.Cond.superclass "LogGrammar$Row" "java/lang/Object") ∈ lw_all := lw_g (lw_at lw_m6 161 rfl) rfl
theorem q2173 : (Jvm.Cond.castable "LogGrammar$Row" "java/lang/Object") ∈ lw_tbl := lw_at lw_m9 181 rfl
theorem in_X9 : ∀ w ∈ wsX90, w ∈ lw_all := lw_in wsX90 [1425, 1427, 1429, 1431] (by decide +kernel) (by decide +kernel)
