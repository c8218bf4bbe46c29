/-! BinderyDeskLaw -/
set_option maxRecDepth 100000
def RX0 : String := "BinderyDeskLaw"
abbrev cX0_addContent : ByteArray := method_3_code
def yX0_addContent : MethodName := ⟨RX0, "addContent", "(LBinderyDesk;[J)I"⟩
def dkwX0_addContent_0 : List UInt8 := [43, 3, 42, 182, 0, 7, 133, 80, 167, 0, 6, 77, 4, 172, 3, 172]
abbrev dktX0_addContent_0 : List UInt8 := dkwX0_addContent_0 ++ []
theorem dksX0_addContent_0 : cX0_addContent.data.toList.drop 0 = dktX0_addContent_0 := by decide +kernel
theorem dX0_addContent_0 : decode cX0_addContent 0 = .ok (.aload_n 1, 1) := dk_43 (dk_at dksX0_addContent_0 0 rfl rfl)
theorem dX0_addContent_1 : decode cX0_addContent 1 = .ok (.iconst 0, 1) := dk_3 (dk_at dksX0_addContent_0 1 rfl rfl)
theorem dX0_addContent_2 : decode cX0_addContent 2 = .ok (.aload_n 0, 1) := dk_42 (dk_at dksX0_addContent_0 2 rfl rfl)
theorem dX0_addContent_3 : decode cX0_addContent 3 = .ok (.invokevirtual 7, 3) := dk_182 0 7 (dk_at dksX0_addContent_0 3 rfl rfl)
theorem dX0_addContent_6 : decode cX0_addContent 6 = .ok (.i2l, 1) := dk_133 (dk_at dksX0_addContent_0 6 rfl rfl)
theorem dX0_addContent_7 : decode cX0_addContent 7 = .ok (.lastore, 1) := dk_80 (dk_at dksX0_addContent_0 7 rfl rfl)
theorem dX0_addContent_8 : decode cX0_addContent 8 = .ok (.goto 6, 3) := dk_167 0 6 (dk_at dksX0_addContent_0 8 rfl rfl)
theorem dX0_addContent_11 : decode cX0_addContent 11 = .ok (.astore_n 2, 1) := dk_77 (dk_at dksX0_addContent_0 11 rfl rfl)
theorem dX0_addContent_12 : decode cX0_addContent 12 = .ok (.iconst 1, 1) := dk_4 (dk_at dksX0_addContent_0 12 rfl rfl)
theorem dX0_addContent_13 : decode cX0_addContent 13 = .ok (.ireturn, 1) := dk_172 (dk_at dksX0_addContent_0 13 rfl rfl)
theorem dX0_addContent_14 : decode cX0_addContent 14 = .ok (.iconst 0, 1) := dk_3 (dk_at dksX0_addContent_0 14 rfl rfl)
theorem dX0_addContent_15 : decode cX0_addContent 15 = .ok (.ireturn, 1) := dk_172 (dk_at dksX0_addContent_0 15 rfl rfl)
abbrev cX0_approve : ByteArray := method_4_code
def yX0_approve : MethodName := ⟨RX0, "approve", "(LBinderyDesk;I[J)I"⟩
def dkwX0_approve_0 : List UInt8 := [44, 3, 42, 27, 182, 0, 15, 153, 0, 7, 10, 167, 0, 4, 9, 80, 167, 0, 6, 78, 4, 172, 3, 172]
abbrev dktX0_approve_0 : List UInt8 := dkwX0_approve_0 ++ []
theorem dksX0_approve_0 : cX0_approve.data.toList.drop 0 = dktX0_approve_0 := by decide +kernel
theorem dX0_approve_0 : decode cX0_approve 0 = .ok (.aload_n 2, 1) := dk_44 (dk_at dksX0_approve_0 0 rfl rfl)
theorem dX0_approve_1 : decode cX0_approve 1 = .ok (.iconst 0, 1) := dk_3 (dk_at dksX0_approve_0 1 rfl rfl)
theorem dX0_approve_2 : decode cX0_approve 2 = .ok (.aload_n 0, 1) := dk_42 (dk_at dksX0_approve_0 2 rfl rfl)
theorem dX0_approve_3 : decode cX0_approve 3 = .ok (.iload_n 1, 1) := dk_27 (dk_at dksX0_approve_0 3 rfl rfl)
theorem dX0_approve_4 : decode cX0_approve 4 = .ok (.invokevirtual 15, 3) := dk_182 0 15 (dk_at dksX0_approve_0 4 rfl rfl)
theorem dX0_approve_7 : decode cX0_approve 7 = .ok (.ifCond .eq 7, 3) := dk_153 0 7 (dk_at dksX0_approve_0 7 rfl rfl)
theorem dX0_approve_10 : decode cX0_approve 10 = .ok (.lconst 1, 1) := dk_10 (dk_at dksX0_approve_0 10 rfl rfl)
theorem dX0_approve_11 : decode cX0_approve 11 = .ok (.goto 4, 3) := dk_167 0 4 (dk_at dksX0_approve_0 11 rfl rfl)
theorem dX0_approve_14 : decode cX0_approve 14 = .ok (.lconst 0, 1) := dk_9 (dk_at dksX0_approve_0 14 rfl rfl)
theorem dX0_approve_15 : decode cX0_approve 15 = .ok (.lastore, 1) := dk_80 (dk_at dksX0_approve_0 15 rfl rfl)
theorem dX0_approve_16 : decode cX0_approve 16 = .ok (.goto 6, 3) := dk_167 0 6 (dk_at dksX0_approve_0 16 rfl rfl)
theorem dX0_approve_19 : decode cX0_approve 19 = .ok (.astore_n 3, 1) := dk_78 (dk_at dksX0_approve_0 19 rfl rfl)
theorem dX0_approve_20 : decode cX0_approve 20 = .ok (.iconst 1, 1) := dk_4 (dk_at dksX0_approve_0 20 rfl rfl)
theorem dX0_approve_21 : decode cX0_approve 21 = .ok (.ireturn, 1) := dk_172 (dk_at dksX0_approve_0 21 rfl rfl)
theorem dX0_approve_22 : decode cX0_approve 22 = .ok (.iconst 0, 1) := dk_3 (dk_at dksX0_approve_0 22 rfl rfl)
theorem dX0_approve_23 : decode cX0_approve 23 = .ok (.ireturn, 1) := dk_172 (dk_at dksX0_approve_0 23 rfl rfl)
abbrev cX0_correct : ByteArray := method_5_code
def yX0_correct : MethodName := ⟨RX0, "correct", "(LBinderyDesk;I[J)I"⟩
def dkwX0_correct_0 : List UInt8 := [44, 3, 42, 27, 182, 0, 21, 133, 80, 167, 0, 9, 78, 4, 172, 78, 5, 172, 3, 172]
abbrev dktX0_correct_0 : List UInt8 := dkwX0_correct_0 ++ []
theorem dksX0_correct_0 : cX0_correct.data.toList.drop 0 = dktX0_correct_0 := by decide +kernel
theorem dX0_correct_0 : decode cX0_correct 0 = .ok (.aload_n 2, 1) := dk_44 (dk_at dksX0_correct_0 0 rfl rfl)
theorem dX0_correct_1 : decode cX0_correct 1 = .ok (.iconst 0, 1) := dk_3 (dk_at dksX0_correct_0 1 rfl rfl)
theorem dX0_correct_2 : decode cX0_correct 2 = .ok (.aload_n 0, 1) := dk_42 (dk_at dksX0_correct_0 2 rfl rfl)
theorem dX0_correct_3 : decode cX0_correct 3 = .ok (.iload_n 1, 1) := dk_27 (dk_at dksX0_correct_0 3 rfl rfl)
theorem dX0_correct_4 : decode cX0_correct 4 = .ok (.invokevirtual 21, 3) := dk_182 0 21 (dk_at dksX0_correct_0 4 rfl rfl)
theorem dX0_correct_7 : decode cX0_correct 7 = .ok (.i2l, 1) := dk_133 (dk_at dksX0_correct_0 7 rfl rfl)
theorem dX0_correct_8 : decode cX0_correct 8 = .ok (.lastore, 1) := dk_80 (dk_at dksX0_correct_0 8 rfl rfl)
theorem dX0_correct_9 : decode cX0_correct 9 = .ok (.goto 9, 3) := dk_167 0 9 (dk_at dksX0_correct_0 9 rfl rfl)
theorem dX0_correct_12 : decode cX0_correct 12 = .ok (.astore_n 3, 1) := dk_78 (dk_at dksX0_correct_0 12 rfl rfl)
theorem dX0_correct_13 : decode cX0_correct 13 = .ok (.iconst 1, 1) := dk_4 (dk_at dksX0_correct_0 13 rfl rfl)
theorem dX0_correct_14 : decode cX0_correct 14 = .ok (.ireturn, 1) := dk_172 (dk_at dksX0_correct_0 14 rfl rfl)
theorem dX0_correct_15 : decode cX0_correct 15 = .ok (.astore_n 3, 1) := dk_78 (dk_at dksX0_correct_0 15 rfl rfl)
theorem dX0_correct_16 : decode cX0_correct 16 = .ok (.iconst 2, 1) := dk_5 (dk_at dksX0_correct_0 16 rfl rfl)
theorem dX0_correct_17 : decode cX0_correct 17 = .ok (.ireturn, 1) := dk_172 (dk_at dksX0_correct_0 17 rfl rfl)
theorem dX0_correct_18 : decode cX0_correct 18 = .ok (.iconst 0, 1) := dk_3 (dk_at dksX0_correct_0 18 rfl rfl)
theorem dX0_correct_19 : decode cX0_correct 19 = .ok (.ireturn, 1) := dk_172 (dk_at dksX0_correct_0 19 rfl rfl)
abbrev cX0_state : ByteArray := method_6_code
def yX0_state : MethodName := ⟨RX0, "state", "(LBinderyDesk;I[J)I"⟩
def dkwX0_state_0 : List UInt8 := [44, 3, 42, 27, 182, 0, 25, 133, 80, 167, 0, 6, 78, 4, 172, 3, 172]
abbrev dktX0_state_0 : List UInt8 := dkwX0_state_0 ++ []
theorem dksX0_state_0 : cX0_state.data.toList.drop 0 = dktX0_state_0 := by decide +kernel
theorem dX0_state_0 : decode cX0_state 0 = .ok (.aload_n 2, 1) := dk_44 (dk_at dksX0_state_0 0 rfl rfl)
theorem dX0_state_1 : decode cX0_state 1 = .ok (.iconst 0, 1) := dk_3 (dk_at dksX0_state_0 1 rfl rfl)
theorem dX0_state_2 : decode cX0_state 2 = .ok (.aload_n 0, 1) := dk_42 (dk_at dksX0_state_0 2 rfl rfl)
theorem dX0_state_3 : decode cX0_state 3 = .ok (.iload_n 1, 1) := dk_27 (dk_at dksX0_state_0 3 rfl rfl)
theorem dX0_state_4 : decode cX0_state 4 = .ok (.invokevirtual 25, 3) := dk_182 0 25 (dk_at dksX0_state_0 4 rfl rfl)
theorem dX0_state_7 : decode cX0_state 7 = .ok (.i2l, 1) := dk_133 (dk_at dksX0_state_0 7 rfl rfl)
theorem dX0_state_8 : decode cX0_state 8 = .ok (.lastore, 1) := dk_80 (dk_at dksX0_state_0 8 rfl rfl)
theorem dX0_state_9 : decode cX0_state 9 = .ok (.goto 6, 3) := dk_167 0 6 (dk_at dksX0_state_0 9 rfl rfl)
theorem dX0_state_12 : decode cX0_state 12 = .ok (.astore_n 3, 1) := dk_78 (dk_at dksX0_state_0 12 rfl rfl)
theorem dX0_state_13 : decode cX0_state 13 = .ok (.iconst 1, 1) := dk_4 (dk_at dksX0_state_0 13 rfl rfl)
theorem dX0_state_14 : decode cX0_state 14 = .ok (.ireturn, 1) := dk_172 (dk_at dksX0_state_0 14 rfl rfl)
theorem dX0_state_15 : decode cX0_state 15 = .ok (.iconst 0, 1) := dk_3 (dk_at dksX0_state_0 15 rfl rfl)
theorem dX0_state_16 : decode cX0_state 16 = .ok (.ireturn, 1) := dk_172 (dk_at dksX0_state_0 16 rfl rfl)
abbrev cX0_addJob : ByteArray := method_7_code
def yX0_addJob : MethodName := ⟨RX0, "addJob", "(LBinderyDesk;C[J)I"⟩
def dkwX0_addJob_0 : List UInt8 := [44, 3, 42, 27, 182, 0, 28, 133, 80, 167, 0, 9, 78, 4, 172, 78, 5, 172, 3, 172]
abbrev dktX0_addJob_0 : List UInt8 := dkwX0_addJob_0 ++ []
theorem dksX0_addJob_0 : cX0_addJob.data.toList.drop 0 = dktX0_addJob_0 := by decide +kernel
theorem dX0_addJob_0 : decode cX0_addJob 0 = .ok (.aload_n 2, 1) := dk_44 (dk_at dksX0_addJob_0 0 rfl rfl)
theorem dX0_addJob_1 : decode cX0_addJob 1 = .ok (.iconst 0, 1) := dk_3 (dk_at dksX0_addJob_0 1 rfl rfl)
theorem dX0_addJob_2 : decode cX0_addJob 2 = .ok (.aload_n 0, 1) := dk_42 (dk_at dksX0_addJob_0 2 rfl rfl)
theorem dX0_addJob_3 : decode cX0_addJob 3 = .ok (.iload_n 1, 1) := dk_27 (dk_at dksX0_addJob_0 3 rfl rfl)
theorem dX0_addJob_4 : decode cX0_addJob 4 = .ok (.invokevirtual 28, 3) := dk_182 0 28 (dk_at dksX0_addJob_0 4 rfl rfl)
theorem dX0_addJob_7 : decode cX0_addJob 7 = .ok (.i2l, 1) := dk_133 (dk_at dksX0_addJob_0 7 rfl rfl)
theorem dX0_addJob_8 : decode cX0_addJob 8 = .ok (.lastore, 1) := dk_80 (dk_at dksX0_addJob_0 8 rfl rfl)
theorem dX0_addJob_9 : decode cX0_addJob 9 = .ok (.goto 9, 3) := dk_167 0 9 (dk_at dksX0_addJob_0 9 rfl rfl)
theorem dX0_addJob_12 : decode cX0_addJob 12 = .ok (.astore_n 3, 1) := dk_78 (dk_at dksX0_addJob_0 12 rfl rfl)
theorem dX0_addJob_13 : decode cX0_addJob 13 = .ok (.iconst 1, 1) := dk_4 (dk_at dksX0_addJob_0 13 rfl rfl)
theorem dX0_addJob_14 : decode cX0_addJob 14 = .ok (.ireturn, 1) := dk_172 (dk_at dksX0_addJob_0 14 rfl rfl)
theorem dX0_addJob_15 : decode cX0_addJob 15 = .ok (.astore_n 3, 1) := dk_78 (dk_at dksX0_addJob_0 15 rfl rfl)
theorem dX0_addJob_16 : decode cX0_addJob 16 = .ok (.iconst 2, 1) := dk_5 (dk_at dksX0_addJob_0 16 rfl rfl)
theorem dX0_addJob_17 : decode cX0_addJob 17 = .ok (.ireturn, 1) := dk_172 (dk_at dksX0_addJob_0 17 rfl rfl)
theorem dX0_addJob_18 : decode cX0_addJob 18 = .ok (.iconst 0, 1) := dk_3 (dk_at dksX0_addJob_0 18 rfl rfl)
theorem dX0_addJob_19 : decode cX0_addJob 19 = .ok (.ireturn, 1) := dk_172 (dk_at dksX0_addJob_0 19 rfl rfl)
abbrev cX0_addPage : ByteArray := method_8_code
def yX0_addPage : MethodName := ⟨RX0, "addPage", "(LBinderyDesk;II[J)I"⟩
def dkwX0_addPage_0 : List UInt8 := [45, 3, 42, 27, 28, 182, 0, 34, 133, 80, 167, 0, 11, 58, 4, 4, 172, 58, 4, 5, 172, 3, 172]
abbrev dktX0_addPage_0 : List UInt8 := dkwX0_addPage_0 ++ []
theorem dksX0_addPage_0 : cX0_addPage.data.toList.drop 0 = dktX0_addPage_0 := by decide +kernel
theorem dX0_addPage_0 : decode cX0_addPage 0 = .ok (.aload_n 3, 1) := dk_45 (dk_at dksX0_addPage_0 0 rfl rfl)
theorem dX0_addPage_1 : decode cX0_addPage 1 = .ok (.iconst 0, 1) := dk_3 (dk_at dksX0_addPage_0 1 rfl rfl)
theorem dX0_addPage_2 : decode cX0_addPage 2 = .ok (.aload_n 0, 1) := dk_42 (dk_at dksX0_addPage_0 2 rfl rfl)
theorem dX0_addPage_3 : decode cX0_addPage 3 = .ok (.iload_n 1, 1) := dk_27 (dk_at dksX0_addPage_0 3 rfl rfl)
theorem dX0_addPage_4 : decode cX0_addPage 4 = .ok (.iload_n 2, 1) := dk_28 (dk_at dksX0_addPage_0 4 rfl rfl)
theorem dX0_addPage_5 : decode cX0_addPage 5 = .ok (.invokevirtual 34, 3) := dk_182 0 34 (dk_at dksX0_addPage_0 5 rfl rfl)
theorem dX0_addPage_8 : decode cX0_addPage 8 = .ok (.i2l, 1) := dk_133 (dk_at dksX0_addPage_0 8 rfl rfl)
theorem dX0_addPage_9 : decode cX0_addPage 9 = .ok (.lastore, 1) := dk_80 (dk_at dksX0_addPage_0 9 rfl rfl)
theorem dX0_addPage_10 : decode cX0_addPage 10 = .ok (.goto 11, 3) := dk_167 0 11 (dk_at dksX0_addPage_0 10 rfl rfl)
theorem dX0_addPage_13 : decode cX0_addPage 13 = .ok (.astore 4, 2) := dk_58 4 (dk_at dksX0_addPage_0 13 rfl rfl)
theorem dX0_addPage_15 : decode cX0_addPage 15 = .ok (.iconst 1, 1) := dk_4 (dk_at dksX0_addPage_0 15 rfl rfl)
theorem dX0_addPage_16 : decode cX0_addPage 16 = .ok (.ireturn, 1) := dk_172 (dk_at dksX0_addPage_0 16 rfl rfl)
theorem dX0_addPage_17 : decode cX0_addPage 17 = .ok (.astore 4, 2) := dk_58 4 (dk_at dksX0_addPage_0 17 rfl rfl)
theorem dX0_addPage_19 : decode cX0_addPage 19 = .ok (.iconst 2, 1) := dk_5 (dk_at dksX0_addPage_0 19 rfl rfl)
theorem dX0_addPage_20 : decode cX0_addPage 20 = .ok (.ireturn, 1) := dk_172 (dk_at dksX0_addPage_0 20 rfl rfl)
theorem dX0_addPage_21 : decode cX0_addPage 21 = .ok (.iconst 0, 1) := dk_3 (dk_at dksX0_addPage_0 21 rfl rfl)
theorem dX0_addPage_22 : decode cX0_addPage 22 = .ok (.ireturn, 1) := dk_172 (dk_at dksX0_addPage_0 22 rfl rfl)
abbrev cX0_pages : ByteArray := method_9_code
def yX0_pages : MethodName := ⟨RX0, "pages", "(LBinderyDesk;I[J)I"⟩
def dkwX0_pages_0 : List UInt8 := [44, 3, 42, 27, 182, 0, 38, 133, 80, 167, 0, 6, 78, 4, 172, 3, 172]
abbrev dktX0_pages_0 : List UInt8 := dkwX0_pages_0 ++ []
theorem dksX0_pages_0 : cX0_pages.data.toList.drop 0 = dktX0_pages_0 := by decide +kernel
theorem dX0_pages_0 : decode cX0_pages 0 = .ok (.aload_n 2, 1) := dk_44 (dk_at dksX0_pages_0 0 rfl rfl)
theorem dX0_pages_1 : decode cX0_pages 1 = .ok (.iconst 0, 1) := dk_3 (dk_at dksX0_pages_0 1 rfl rfl)
theorem dX0_pages_2 : decode cX0_pages 2 = .ok (.aload_n 0, 1) := dk_42 (dk_at dksX0_pages_0 2 rfl rfl)
theorem dX0_pages_3 : decode cX0_pages 3 = .ok (.iload_n 1, 1) := dk_27 (dk_at dksX0_pages_0 3 rfl rfl)
theorem dX0_pages_4 : decode cX0_pages 4 = .ok (.invokevirtual 38, 3) := dk_182 0 38 (dk_at dksX0_pages_0 4 rfl rfl)
theorem dX0_pages_7 : decode cX0_pages 7 = .ok (.i2l, 1) := dk_133 (dk_at dksX0_pages_0 7 rfl rfl)
theorem dX0_pages_8 : decode cX0_pages 8 = .ok (.lastore, 1) := dk_80 (dk_at dksX0_pages_0 8 rfl rfl)
theorem dX0_pages_9 : decode cX0_pages 9 = .ok (.goto 6, 3) := dk_167 0 6 (dk_at dksX0_pages_0 9 rfl rfl)
theorem dX0_pages_12 : decode cX0_pages 12 = .ok (.astore_n 3, 1) := dk_78 (dk_at dksX0_pages_0 12 rfl rfl)
theorem dX0_pages_13 : decode cX0_pages 13 = .ok (.iconst 1, 1) := dk_4 (dk_at dksX0_pages_0 13 rfl rfl)
theorem dX0_pages_14 : decode cX0_pages 14 = .ok (.ireturn, 1) := dk_172 (dk_at dksX0_pages_0 14 rfl rfl)
theorem dX0_pages_15 : decode cX0_pages 15 = .ok (.iconst 0, 1) := dk_3 (dk_at dksX0_pages_0 15 rfl rfl)
theorem dX0_pages_16 : decode cX0_pages 16 = .ok (.ireturn, 1) := dk_172 (dk_at dksX0_pages_0 16 rfl rfl)
abbrev cX0_sheets : ByteArray := method_10_code
def yX0_sheets : MethodName := ⟨RX0, "sheets", "(LBinderyDesk;I[J)I"⟩
def dkwX0_sheets_0 : List UInt8 := [44, 3, 42, 27, 182, 0, 41, 133, 80, 167, 0, 9, 78, 4, 172, 78, 5, 172, 3, 172]
abbrev dktX0_sheets_0 : List UInt8 := dkwX0_sheets_0 ++ []
theorem dksX0_sheets_0 : cX0_sheets.data.toList.drop 0 = dktX0_sheets_0 := by decide +kernel
theorem dX0_sheets_0 : decode cX0_sheets 0 = .ok (.aload_n 2, 1) := dk_44 (dk_at dksX0_sheets_0 0 rfl rfl)
theorem dX0_sheets_1 : decode cX0_sheets 1 = .ok (.iconst 0, 1) := dk_3 (dk_at dksX0_sheets_0 1 rfl rfl)
theorem dX0_sheets_2 : decode cX0_sheets 2 = .ok (.aload_n 0, 1) := dk_42 (dk_at dksX0_sheets_0 2 rfl rfl)
theorem dX0_sheets_3 : decode cX0_sheets 3 = .ok (.iload_n 1, 1) := dk_27 (dk_at dksX0_sheets_0 3 rfl rfl)
theorem dX0_sheets_4 : decode cX0_sheets 4 = .ok (.invokevirtual 41, 3) := dk_182 0 41 (dk_at dksX0_sheets_0 4 rfl rfl)
theorem dX0_sheets_7 : decode cX0_sheets 7 = .ok (.i2l, 1) := dk_133 (dk_at dksX0_sheets_0 7 rfl rfl)
theorem dX0_sheets_8 : decode cX0_sheets 8 = .ok (.lastore, 1) := dk_80 (dk_at dksX0_sheets_0 8 rfl rfl)
theorem dX0_sheets_9 : decode cX0_sheets 9 = .ok (.goto 9, 3) := dk_167 0 9 (dk_at dksX0_sheets_0 9 rfl rfl)
theorem dX0_sheets_12 : decode cX0_sheets 12 = .ok (.astore_n 3, 1) := dk_78 (dk_at dksX0_sheets_0 12 rfl rfl)
theorem dX0_sheets_13 : decode cX0_sheets 13 = .ok (.iconst 1, 1) := dk_4 (dk_at dksX0_sheets_0 13 rfl rfl)
theorem dX0_sheets_14 : decode cX0_sheets 14 = .ok (.ireturn, 1) := dk_172 (dk_at dksX0_sheets_0 14 rfl rfl)
theorem dX0_sheets_15 : decode cX0_sheets 15 = .ok (.astore_n 3, 1) := dk_78 (dk_at dksX0_sheets_0 15 rfl rfl)
theorem dX0_sheets_16 : decode cX0_sheets 16 = .ok (.iconst 2, 1) := dk_5 (dk_at dksX0_sheets_0 16 rfl rfl)
theorem dX0_sheets_17 : decode cX0_sheets 17 = .ok (.ireturn, 1) := dk_172 (dk_at dksX0_sheets_0 17 rfl rfl)
theorem dX0_sheets_18 : decode cX0_sheets 18 = .ok (.iconst 0, 1) := dk_3 (dk_at dksX0_sheets_0 18 rfl rfl)
theorem dX0_sheets_19 : decode cX0_sheets 19 = .ok (.ireturn, 1) := dk_172 (dk_at dksX0_sheets_0 19 rfl rfl)
abbrev cX0_pageAt : ByteArray := method_11_code
def yX0_pageAt : MethodName := ⟨RX0, "pageAt", "(LBinderyDesk;III[J)I"⟩
def dkwX0_pageAt_1 : List UInt8 := [58, 5, 6, 172, 3, 172]
abbrev dktX0_pageAt_1 : List UInt8 := dkwX0_pageAt_1 ++ []
def dkwX0_pageAt_0 : List UInt8 := [25, 4, 3, 42, 27, 28, 29, 182, 0, 44, 133, 80, 167, 0, 15, 58, 5, 4, 172, 58, 5, 5, 172]
abbrev dktX0_pageAt_0 : List UInt8 := dkwX0_pageAt_0 ++ dktX0_pageAt_1
theorem dksX0_pageAt_0 : cX0_pageAt.data.toList.drop 0 = dktX0_pageAt_0 := by decide +kernel
theorem dksX0_pageAt_1 : cX0_pageAt.data.toList.drop 23 = dktX0_pageAt_1 := dk_seg dksX0_pageAt_0 23 rfl rfl
theorem dX0_pageAt_0 : decode cX0_pageAt 0 = .ok (.aload 4, 2) := dk_25 4 (dk_at dksX0_pageAt_0 0 rfl rfl)
theorem dX0_pageAt_2 : decode cX0_pageAt 2 = .ok (.iconst 0, 1) := dk_3 (dk_at dksX0_pageAt_0 2 rfl rfl)
theorem dX0_pageAt_3 : decode cX0_pageAt 3 = .ok (.aload_n 0, 1) := dk_42 (dk_at dksX0_pageAt_0 3 rfl rfl)
theorem dX0_pageAt_4 : decode cX0_pageAt 4 = .ok (.iload_n 1, 1) := dk_27 (dk_at dksX0_pageAt_0 4 rfl rfl)
theorem dX0_pageAt_5 : decode cX0_pageAt 5 = .ok (.iload_n 2, 1) := dk_28 (dk_at dksX0_pageAt_0 5 rfl rfl)
theorem dX0_pageAt_6 : decode cX0_pageAt 6 = .ok (.iload_n 3, 1) := dk_29 (dk_at dksX0_pageAt_0 6 rfl rfl)
theorem dX0_pageAt_7 : decode cX0_pageAt 7 = .ok (.invokevirtual 44, 3) := dk_182 0 44 (dk_at dksX0_pageAt_0 7 rfl rfl)
theorem dX0_pageAt_10 : decode cX0_pageAt 10 = .ok (.i2l, 1) := dk_133 (dk_at dksX0_pageAt_0 10 rfl rfl)
theorem dX0_pageAt_11 : decode cX0_pageAt 11 = .ok (.lastore, 1) := dk_80 (dk_at dksX0_pageAt_0 11 rfl rfl)
theorem dX0_pageAt_12 : decode cX0_pageAt 12 = .ok (.goto 15, 3) := dk_167 0 15 (dk_at dksX0_pageAt_0 12 rfl rfl)
theorem dX0_pageAt_15 : decode cX0_pageAt 15 = .ok (.astore 5, 2) := dk_58 5 (dk_at dksX0_pageAt_0 15 rfl rfl)
theorem dX0_pageAt_17 : decode cX0_pageAt 17 = .ok (.iconst 1, 1) := dk_4 (dk_at dksX0_pageAt_0 17 rfl rfl)
theorem dX0_pageAt_18 : decode cX0_pageAt 18 = .ok (.ireturn, 1) := dk_172 (dk_at dksX0_pageAt_0 18 rfl rfl)
theorem dX0_pageAt_19 : decode cX0_pageAt 19 = .ok (.astore 5, 2) := dk_58 5 (dk_at dksX0_pageAt_0 19 rfl rfl)
theorem dX0_pageAt_21 : decode cX0_pageAt 21 = .ok (.iconst 2, 1) := dk_5 (dk_at dksX0_pageAt_0 21 rfl rfl)
theorem dX0_pageAt_22 : decode cX0_pageAt 22 = .ok (.ireturn, 1) := dk_172 (dk_at dksX0_pageAt_0 22 rfl rfl)
theorem dX0_pageAt_23 : decode cX0_pageAt 23 = .ok (.astore 5, 2) := dk_58 5 (dk_at dksX0_pageAt_1 0 rfl rfl)
theorem dX0_pageAt_25 : decode cX0_pageAt 25 = .ok (.iconst 3, 1) := dk_6 (dk_at dksX0_pageAt_1 2 rfl rfl)
theorem dX0_pageAt_26 : decode cX0_pageAt 26 = .ok (.ireturn, 1) := dk_172 (dk_at dksX0_pageAt_1 3 rfl rfl)
theorem dX0_pageAt_27 : decode cX0_pageAt 27 = .ok (.iconst 0, 1) := dk_3 (dk_at dksX0_pageAt_1 4 rfl rfl)
theorem dX0_pageAt_28 : decode cX0_pageAt 28 = .ok (.ireturn, 1) := dk_172 (dk_at dksX0_pageAt_1 5 rfl rfl)
abbrev cX0_sheetOf : ByteArray := method_12_code
def yX0_sheetOf : MethodName := ⟨RX0, "sheetOf", "(LBinderyDesk;II[J)I"⟩
def dkwX0_sheetOf_1 : List UInt8 := [172, 3, 172]
abbrev dktX0_sheetOf_1 : List UInt8 := dkwX0_sheetOf_1 ++ []
def dkwX0_sheetOf_0 : List UInt8 := [45, 3, 42, 27, 28, 182, 0, 50, 133, 80, 167, 0, 15, 58, 4, 4, 172, 58, 4, 5, 172, 58, 4, 6]
abbrev dktX0_sheetOf_0 : List UInt8 := dkwX0_sheetOf_0 ++ dktX0_sheetOf_1
theorem dksX0_sheetOf_0 : cX0_sheetOf.data.toList.drop 0 = dktX0_sheetOf_0 := by decide +kernel
theorem dksX0_sheetOf_1 : cX0_sheetOf.data.toList.drop 24 = dktX0_sheetOf_1 := dk_seg dksX0_sheetOf_0 24 rfl rfl
theorem dX0_sheetOf_0 : decode cX0_sheetOf 0 = .ok (.aload_n 3, 1) := dk_45 (dk_at dksX0_sheetOf_0 0 rfl rfl)
theorem dX0_sheetOf_1 : decode cX0_sheetOf 1 = .ok (.iconst 0, 1) := dk_3 (dk_at dksX0_sheetOf_0 1 rfl rfl)
theorem dX0_sheetOf_2 : decode cX0_sheetOf 2 = .ok (.aload_n 0, 1) := dk_42 (dk_at dksX0_sheetOf_0 2 rfl rfl)
theorem dX0_sheetOf_3 : decode cX0_sheetOf 3 = .ok (.iload_n 1, 1) := dk_27 (dk_at dksX0_sheetOf_0 3 rfl rfl)
theorem dX0_sheetOf_4 : decode cX0_sheetOf 4 = .ok (.iload_n 2, 1) := dk_28 (dk_at dksX0_sheetOf_0 4 rfl rfl)
theorem dX0_sheetOf_5 : decode cX0_sheetOf 5 = .ok (.invokevirtual 50, 3) := dk_182 0 50 (dk_at dksX0_sheetOf_0 5 rfl rfl)
theorem dX0_sheetOf_8 : decode cX0_sheetOf 8 = .ok (.i2l, 1) := dk_133 (dk_at dksX0_sheetOf_0 8 rfl rfl)
theorem dX0_sheetOf_9 : decode cX0_sheetOf 9 = .ok (.lastore, 1) := dk_80 (dk_at dksX0_sheetOf_0 9 rfl rfl)
theorem dX0_sheetOf_10 : decode cX0_sheetOf 10 = .ok (.goto 15, 3) := dk_167 0 15 (dk_at dksX0_sheetOf_0 10 rfl rfl)
theorem dX0_sheetOf_13 : decode cX0_sheetOf 13 = .ok (.astore 4, 2) := dk_58 4 (dk_at dksX0_sheetOf_0 13 rfl rfl)
theorem dX0_sheetOf_15 : decode cX0_sheetOf 15 = .ok (.iconst 1, 1) := dk_4 (dk_at dksX0_sheetOf_0 15 rfl rfl)
theorem dX0_sheetOf_16 : decode cX0_sheetOf 16 = .ok (.ireturn, 1) := dk_172 (dk_at dksX0_sheetOf_0 16 rfl rfl)
theorem dX0_sheetOf_17 : decode cX0_sheetOf 17 = .ok (.astore 4, 2) := dk_58 4 (dk_at dksX0_sheetOf_0 17 rfl rfl)
theorem dX0_sheetOf_19 : decode cX0_sheetOf 19 = .ok (.iconst 2, 1) := dk_5 (dk_at dksX0_sheetOf_0 19 rfl rfl)
theorem dX0_sheetOf_20 : decode cX0_sheetOf 20 = .ok (.ireturn, 1) := dk_172 (dk_at dksX0_sheetOf_0 20 rfl rfl)
theorem dX0_sheetOf_21 : decode cX0_sheetOf 21 = .ok (.astore 4, 2) := dk_58 4 (dk_at dksX0_sheetOf_0 21 rfl rfl)
theorem dX0_sheetOf_23 : decode cX0_sheetOf 23 = .ok (.iconst 3, 1) := dk_6 (dk_at dksX0_sheetOf_0 23 rfl rfl)
theorem dX0_sheetOf_24 : decode cX0_sheetOf 24 = .ok (.ireturn, 1) := dk_172 (dk_at dksX0_sheetOf_1 0 rfl rfl)
theorem dX0_sheetOf_25 : decode cX0_sheetOf 25 = .ok (.iconst 0, 1) := dk_3 (dk_at dksX0_sheetOf_1 1 rfl rfl)
theorem dX0_sheetOf_26 : decode cX0_sheetOf 26 = .ok (.ireturn, 1) := dk_172 (dk_at dksX0_sheetOf_1 2 rfl rfl)
abbrev cX0_print : ByteArray := method_13_code
def yX0_print : MethodName := ⟨RX0, "print", "(LBinderyDesk;III[J)I"⟩
def dkwX0_print_1 : List UInt8 := [58, 5, 6, 172, 58, 5, 7, 172, 58, 5, 8, 172, 3, 172]
abbrev dktX0_print_1 : List UInt8 := dkwX0_print_1 ++ []
def dkwX0_print_0 : List UInt8 := [25, 4, 3, 42, 27, 28, 29, 182, 0, 53, 133, 80, 167, 0, 23, 58, 5, 4, 172, 58, 5, 5, 172]
abbrev dktX0_print_0 : List UInt8 := dkwX0_print_0 ++ dktX0_print_1
theorem dksX0_print_0 : cX0_print.data.toList.drop 0 = dktX0_print_0 := by decide +kernel
theorem dksX0_print_1 : cX0_print.data.toList.drop 23 = dktX0_print_1 := dk_seg dksX0_print_0 23 rfl rfl
theorem dX0_print_0 : decode cX0_print 0 = .ok (.aload 4, 2) := dk_25 4 (dk_at dksX0_print_0 0 rfl rfl)
theorem dX0_print_2 : decode cX0_print 2 = .ok (.iconst 0, 1) := dk_3 (dk_at dksX0_print_0 2 rfl rfl)
theorem dX0_print_3 : decode cX0_print 3 = .ok (.aload_n 0, 1) := dk_42 (dk_at dksX0_print_0 3 rfl rfl)
theorem dX0_print_4 : decode cX0_print 4 = .ok (.iload_n 1, 1) := dk_27 (dk_at dksX0_print_0 4 rfl rfl)
theorem dX0_print_5 : decode cX0_print 5 = .ok (.iload_n 2, 1) := dk_28 (dk_at dksX0_print_0 5 rfl rfl)
theorem dX0_print_6 : decode cX0_print 6 = .ok (.iload_n 3, 1) := dk_29 (dk_at dksX0_print_0 6 rfl rfl)
theorem dX0_print_7 : decode cX0_print 7 = .ok (.invokevirtual 53, 3) := dk_182 0 53 (dk_at dksX0_print_0 7 rfl rfl)
theorem dX0_print_10 : decode cX0_print 10 = .ok (.i2l, 1) := dk_133 (dk_at dksX0_print_0 10 rfl rfl)
theorem dX0_print_11 : decode cX0_print 11 = .ok (.lastore, 1) := dk_80 (dk_at dksX0_print_0 11 rfl rfl)
theorem dX0_print_12 : decode cX0_print 12 = .ok (.goto 23, 3) := dk_167 0 23 (dk_at dksX0_print_0 12 rfl rfl)
theorem dX0_print_15 : decode cX0_print 15 = .ok (.astore 5, 2) := dk_58 5 (dk_at dksX0_print_0 15 rfl rfl)
theorem dX0_print_17 : decode cX0_print 17 = .ok (.iconst 1, 1) := dk_4 (dk_at dksX0_print_0 17 rfl rfl)
theorem dX0_print_18 : decode cX0_print 18 = .ok (.ireturn, 1) := dk_172 (dk_at dksX0_print_0 18 rfl rfl)
theorem dX0_print_19 : decode cX0_print 19 = .ok (.astore 5, 2) := dk_58 5 (dk_at dksX0_print_0 19 rfl rfl)
theorem dX0_print_21 : decode cX0_print 21 = .ok (.iconst 2, 1) := dk_5 (dk_at dksX0_print_0 21 rfl rfl)
theorem dX0_print_22 : decode cX0_print 22 = .ok (.ireturn, 1) := dk_172 (dk_at dksX0_print_0 22 rfl rfl)
theorem dX0_print_23 : decode cX0_print 23 = .ok (.astore 5, 2) := dk_58 5 (dk_at dksX0_print_1 0 rfl rfl)
theorem dX0_print_25 : decode cX0_print 25 = .ok (.iconst 3, 1) := dk_6 (dk_at dksX0_print_1 2 rfl rfl)
theorem dX0_print_26 : decode cX0_print 26 = .ok (.ireturn, 1) := dk_172 (dk_at dksX0_print_1 3 rfl rfl)
theorem dX0_print_27 : decode cX0_print 27 = .ok (.astore 5, 2) := dk_58 5 (dk_at dksX0_print_1 4 rfl rfl)
theorem dX0_print_29 : decode cX0_print 29 = .ok (.iconst 4, 1) := dk_7 (dk_at dksX0_print_1 6 rfl rfl)
theorem dX0_print_30 : decode cX0_print 30 = .ok (.ireturn, 1) := dk_172 (dk_at dksX0_print_1 7 rfl rfl)
theorem dX0_print_31 : decode cX0_print 31 = .ok (.astore 5, 2) := dk_58 5 (dk_at dksX0_print_1 8 rfl rfl)
theorem dX0_print_33 : decode cX0_print 33 = .ok (.iconst 5, 1) := dk_8 (dk_at dksX0_print_1 10 rfl rfl)
theorem dX0_print_34 : decode cX0_print 34 = .ok (.ireturn, 1) := dk_172 (dk_at dksX0_print_1 11 rfl rfl)
theorem dX0_print_35 : decode cX0_print 35 = .ok (.iconst 0, 1) := dk_3 (dk_at dksX0_print_1 12 rfl rfl)
theorem dX0_print_36 : decode cX0_print 36 = .ok (.ireturn, 1) := dk_172 (dk_at dksX0_print_1 13 rfl rfl)
abbrev cX0_makeready : ByteArray := method_14_code
def yX0_makeready : MethodName := ⟨RX0, "makeready", "(LBinderyDesk;II[J)I"⟩
def dkwX0_makeready_1 : List UInt8 := [172, 3, 172]
abbrev dktX0_makeready_1 : List UInt8 := dkwX0_makeready_1 ++ []
def dkwX0_makeready_0 : List UInt8 := [45, 3, 42, 27, 28, 182, 0, 58, 133, 80, 167, 0, 15, 58, 4, 4, 172, 58, 4, 5, 172, 58, 4, 6]
abbrev dktX0_makeready_0 : List UInt8 := dkwX0_makeready_0 ++ dktX0_makeready_1
theorem dksX0_makeready_0 : cX0_makeready.data.toList.drop 0 = dktX0_makeready_0 := by decide +kernel
theorem dksX0_makeready_1 : cX0_makeready.data.toList.drop 24 = dktX0_makeready_1 := dk_seg dksX0_makeready_0 24 rfl rfl
theorem dX0_makeready_0 : decode cX0_makeready 0 = .ok (.aload_n 3, 1) := dk_45 (dk_at dksX0_makeready_0 0 rfl rfl)
theorem dX0_makeready_1 : decode cX0_makeready 1 = .ok (.iconst 0, 1) := dk_3 (dk_at dksX0_makeready_0 1 rfl rfl)
theorem dX0_makeready_2 : decode cX0_makeready 2 = .ok (.aload_n 0, 1) := dk_42 (dk_at dksX0_makeready_0 2 rfl rfl)
theorem dX0_makeready_3 : decode cX0_makeready 3 = .ok (.iload_n 1, 1) := dk_27 (dk_at dksX0_makeready_0 3 rfl rfl)
theorem dX0_makeready_4 : decode cX0_makeready 4 = .ok (.iload_n 2, 1) := dk_28 (dk_at dksX0_makeready_0 4 rfl rfl)
theorem dX0_makeready_5 : decode cX0_makeready 5 = .ok (.invokevirtual 58, 3) := dk_182 0 58 (dk_at dksX0_makeready_0 5 rfl rfl)
theorem dX0_makeready_8 : decode cX0_makeready 8 = .ok (.i2l, 1) := dk_133 (dk_at dksX0_makeready_0 8 rfl rfl)
theorem dX0_makeready_9 : decode cX0_makeready 9 = .ok (.lastore, 1) := dk_80 (dk_at dksX0_makeready_0 9 rfl rfl)
theorem dX0_makeready_10 : decode cX0_makeready 10 = .ok (.goto 15, 3) := dk_167 0 15 (dk_at dksX0_makeready_0 10 rfl rfl)
theorem dX0_makeready_13 : decode cX0_makeready 13 = .ok (.astore 4, 2) := dk_58 4 (dk_at dksX0_makeready_0 13 rfl rfl)
theorem dX0_makeready_15 : decode cX0_makeready 15 = .ok (.iconst 1, 1) := dk_4 (dk_at dksX0_makeready_0 15 rfl rfl)
theorem dX0_makeready_16 : decode cX0_makeready 16 = .ok (.ireturn, 1) := dk_172 (dk_at dksX0_makeready_0 16 rfl rfl)
theorem dX0_makeready_17 : decode cX0_makeready 17 = .ok (.astore 4, 2) := dk_58 4 (dk_at dksX0_makeready_0 17 rfl rfl)
theorem dX0_makeready_19 : decode cX0_makeready 19 = .ok (.iconst 2, 1) := dk_5 (dk_at dksX0_makeready_0 19 rfl rfl)
theorem dX0_makeready_20 : decode cX0_makeready 20 = .ok (.ireturn, 1) := dk_172 (dk_at dksX0_makeready_0 20 rfl rfl)
theorem dX0_makeready_21 : decode cX0_makeready 21 = .ok (.astore 4, 2) := dk_58 4 (dk_at dksX0_makeready_0 21 rfl rfl)
theorem dX0_makeready_23 : decode cX0_makeready 23 = .ok (.iconst 3, 1) := dk_6 (dk_at dksX0_makeready_0 23 rfl rfl)
theorem dX0_makeready_24 : decode cX0_makeready 24 = .ok (.ireturn, 1) := dk_172 (dk_at dksX0_makeready_1 0 rfl rfl)
theorem dX0_makeready_25 : decode cX0_makeready 25 = .ok (.iconst 0, 1) := dk_3 (dk_at dksX0_makeready_1 1 rfl rfl)
theorem dX0_makeready_26 : decode cX0_makeready 26 = .ok (.ireturn, 1) := dk_172 (dk_at dksX0_makeready_1 2 rfl rfl)
abbrev cX0_leastMakeready : ByteArray := method_15_code
def yX0_leastMakeready : MethodName := ⟨RX0, "leastMakeready", "(LBinderyDesk;I[J)I"⟩
def dkwX0_leastMakeready_0 : List UInt8 := [44, 3, 42, 27, 182, 0, 61, 133, 80, 167, 0, 9, 78, 4, 172, 78, 5, 172, 3, 172]
abbrev dktX0_leastMakeready_0 : List UInt8 := dkwX0_leastMakeready_0 ++ []
theorem dksX0_leastMakeready_0 : cX0_leastMakeready.data.toList.drop 0 = dktX0_leastMakeready_0 := by decide +kernel
theorem dX0_leastMakeready_0 : decode cX0_leastMakeready 0 = .ok (.aload_n 2, 1) := dk_44 (dk_at dksX0_leastMakeready_0 0 rfl rfl)
theorem dX0_leastMakeready_1 : decode cX0_leastMakeready 1 = .ok (.iconst 0, 1) := dk_3 (dk_at dksX0_leastMakeready_0 1 rfl rfl)
theorem dX0_leastMakeready_2 : decode cX0_leastMakeready 2 = .ok (.aload_n 0, 1) := dk_42 (dk_at dksX0_leastMakeready_0 2 rfl rfl)
theorem dX0_leastMakeready_3 : decode cX0_leastMakeready 3 = .ok (.iload_n 1, 1) := dk_27 (dk_at dksX0_leastMakeready_0 3 rfl rfl)
theorem dX0_leastMakeready_4 : decode cX0_leastMakeready 4 = .ok (.invokevirtual 61, 3) := dk_182 0 61 (dk_at dksX0_leastMakeready_0 4 rfl rfl)
theorem dX0_leastMakeready_7 : decode cX0_leastMakeready 7 = .ok (.i2l, 1) := dk_133 (dk_at dksX0_leastMakeready_0 7 rfl rfl)
theorem dX0_leastMakeready_8 : decode cX0_leastMakeready 8 = .ok (.lastore, 1) := dk_80 (dk_at dksX0_leastMakeready_0 8 rfl rfl)
theorem dX0_leastMakeready_9 : decode cX0_leastMakeready 9 = .ok (.goto 9, 3) := dk_167 0 9 (dk_at dksX0_leastMakeready_0 9 rfl rfl)
theorem dX0_leastMakeready_12 : decode cX0_leastMakeready 12 = .ok (.astore_n 3, 1) := dk_78 (dk_at dksX0_leastMakeready_0 12 rfl rfl)
theorem dX0_leastMakeready_13 : decode cX0_leastMakeready 13 = .ok (.iconst 1, 1) := dk_4 (dk_at dksX0_leastMakeready_0 13 rfl rfl)
theorem dX0_leastMakeready_14 : decode cX0_leastMakeready 14 = .ok (.ireturn, 1) := dk_172 (dk_at dksX0_leastMakeready_0 14 rfl rfl)
theorem dX0_leastMakeready_15 : decode cX0_leastMakeready 15 = .ok (.astore_n 3, 1) := dk_78 (dk_at dksX0_leastMakeready_0 15 rfl rfl)
theorem dX0_leastMakeready_16 : decode cX0_leastMakeready 16 = .ok (.iconst 2, 1) := dk_5 (dk_at dksX0_leastMakeready_0 16 rfl rfl)
theorem dX0_leastMakeready_17 : decode cX0_leastMakeready 17 = .ok (.ireturn, 1) := dk_172 (dk_at dksX0_leastMakeready_0 17 rfl rfl)
theorem dX0_leastMakeready_18 : decode cX0_leastMakeready 18 = .ok (.iconst 0, 1) := dk_3 (dk_at dksX0_leastMakeready_0 18 rfl rfl)
theorem dX0_leastMakeready_19 : decode cX0_leastMakeready 19 = .ok (.ireturn, 1) := dk_172 (dk_at dksX0_leastMakeready_0 19 rfl rfl)
abbrev cX0_leastByTrying : ByteArray := method_16_code
def yX0_leastByTrying : MethodName := ⟨RX0, "leastByTrying", "(LBinderyDesk;I[J)I"⟩
def dkwX0_leastByTrying_0 : List UInt8 := [44, 3, 42, 27, 182, 0, 64, 133, 80, 167, 0, 12, 78, 4, 172, 78, 5, 172, 78, 6, 172, 3, 172]
abbrev dktX0_leastByTrying_0 : List UInt8 := dkwX0_leastByTrying_0 ++ []
theorem dksX0_leastByTrying_0 : cX0_leastByTrying.data.toList.drop 0 = dktX0_leastByTrying_0 := by decide +kernel
theorem dX0_leastByTrying_0 : decode cX0_leastByTrying 0 = .ok (.aload_n 2, 1) := dk_44 (dk_at dksX0_leastByTrying_0 0 rfl rfl)
theorem dX0_leastByTrying_1 : decode cX0_leastByTrying 1 = .ok (.iconst 0, 1) := dk_3 (dk_at dksX0_leastByTrying_0 1 rfl rfl)
theorem dX0_leastByTrying_2 : decode cX0_leastByTrying 2 = .ok (.aload_n 0, 1) := dk_42 (dk_at dksX0_leastByTrying_0 2 rfl rfl)
theorem dX0_leastByTrying_3 : decode cX0_leastByTrying 3 = .ok (.iload_n 1, 1) := dk_27 (dk_at dksX0_leastByTrying_0 3 rfl rfl)
theorem dX0_leastByTrying_4 : decode cX0_leastByTrying 4 = .ok (.invokevirtual 64, 3) := dk_182 0 64 (dk_at dksX0_leastByTrying_0 4 rfl rfl)
theorem dX0_leastByTrying_7 : decode cX0_leastByTrying 7 = .ok (.i2l, 1) := dk_133 (dk_at dksX0_leastByTrying_0 7 rfl rfl)
theorem dX0_leastByTrying_8 : decode cX0_leastByTrying 8 = .ok (.lastore, 1) := dk_80 (dk_at dksX0_leastByTrying_0 8 rfl rfl)
theorem dX0_leastByTrying_9 : decode cX0_leastByTrying 9 = .ok (.goto 12, 3) := dk_167 0 12 (dk_at dksX0_leastByTrying_0 9 rfl rfl)
theorem dX0_leastByTrying_12 : decode cX0_leastByTrying 12 = .ok (.astore_n 3, 1) := dk_78 (dk_at dksX0_leastByTrying_0 12 rfl rfl)
theorem dX0_leastByTrying_13 : decode cX0_leastByTrying 13 = .ok (.iconst 1, 1) := dk_4 (dk_at dksX0_leastByTrying_0 13 rfl rfl)
theorem dX0_leastByTrying_14 : decode cX0_leastByTrying 14 = .ok (.ireturn, 1) := dk_172 (dk_at dksX0_leastByTrying_0 14 rfl rfl)
theorem dX0_leastByTrying_15 : decode cX0_leastByTrying 15 = .ok (.astore_n 3, 1) := dk_78 (dk_at dksX0_leastByTrying_0 15 rfl rfl)
theorem dX0_leastByTrying_16 : decode cX0_leastByTrying 16 = .ok (.iconst 2, 1) := dk_5 (dk_at dksX0_leastByTrying_0 16 rfl rfl)
theorem dX0_leastByTrying_17 : decode cX0_leastByTrying 17 = .ok (.ireturn, 1) := dk_172 (dk_at dksX0_leastByTrying_0 17 rfl rfl)
theorem dX0_leastByTrying_18 : decode cX0_leastByTrying 18 = .ok (.astore_n 3, 1) := dk_78 (dk_at dksX0_leastByTrying_0 18 rfl rfl)
theorem dX0_leastByTrying_19 : decode cX0_leastByTrying 19 = .ok (.iconst 3, 1) := dk_6 (dk_at dksX0_leastByTrying_0 19 rfl rfl)
theorem dX0_leastByTrying_20 : decode cX0_leastByTrying 20 = .ok (.ireturn, 1) := dk_172 (dk_at dksX0_leastByTrying_0 20 rfl rfl)
theorem dX0_leastByTrying_21 : decode cX0_leastByTrying 21 = .ok (.iconst 0, 1) := dk_3 (dk_at dksX0_leastByTrying_0 21 rfl rfl)
theorem dX0_leastByTrying_22 : decode cX0_leastByTrying 22 = .ok (.ireturn, 1) := dk_172 (dk_at dksX0_leastByTrying_0 22 rfl rfl)
abbrev cX0_stock : ByteArray := method_17_code
def yX0_stock : MethodName := ⟨RX0, "stock", "(LBinderyDesk;II[J)I"⟩
def dkwX0_stock_1 : List UInt8 := [172, 3, 172]
abbrev dktX0_stock_1 : List UInt8 := dkwX0_stock_1 ++ []
def dkwX0_stock_0 : List UInt8 := [45, 3, 42, 27, 28, 182, 0, 67, 133, 80, 167, 0, 15, 58, 4, 4, 172, 58, 4, 5, 172, 58, 4, 6]
abbrev dktX0_stock_0 : List UInt8 := dkwX0_stock_0 ++ dktX0_stock_1
theorem dksX0_stock_0 : cX0_stock.data.toList.drop 0 = dktX0_stock_0 := by decide +kernel
theorem dksX0_stock_1 : cX0_stock.data.toList.drop 24 = dktX0_stock_1 := dk_seg dksX0_stock_0 24 rfl rfl
theorem dX0_stock_0 : decode cX0_stock 0 = .ok (.aload_n 3, 1) := dk_45 (dk_at dksX0_stock_0 0 rfl rfl)
theorem dX0_stock_1 : decode cX0_stock 1 = .ok (.iconst 0, 1) := dk_3 (dk_at dksX0_stock_0 1 rfl rfl)
theorem dX0_stock_2 : decode cX0_stock 2 = .ok (.aload_n 0, 1) := dk_42 (dk_at dksX0_stock_0 2 rfl rfl)
theorem dX0_stock_3 : decode cX0_stock 3 = .ok (.iload_n 1, 1) := dk_27 (dk_at dksX0_stock_0 3 rfl rfl)
theorem dX0_stock_4 : decode cX0_stock 4 = .ok (.iload_n 2, 1) := dk_28 (dk_at dksX0_stock_0 4 rfl rfl)
theorem dX0_stock_5 : decode cX0_stock 5 = .ok (.invokevirtual 67, 3) := dk_182 0 67 (dk_at dksX0_stock_0 5 rfl rfl)
theorem dX0_stock_8 : decode cX0_stock 8 = .ok (.i2l, 1) := dk_133 (dk_at dksX0_stock_0 8 rfl rfl)
theorem dX0_stock_9 : decode cX0_stock 9 = .ok (.lastore, 1) := dk_80 (dk_at dksX0_stock_0 9 rfl rfl)
theorem dX0_stock_10 : decode cX0_stock 10 = .ok (.goto 15, 3) := dk_167 0 15 (dk_at dksX0_stock_0 10 rfl rfl)
theorem dX0_stock_13 : decode cX0_stock 13 = .ok (.astore 4, 2) := dk_58 4 (dk_at dksX0_stock_0 13 rfl rfl)
theorem dX0_stock_15 : decode cX0_stock 15 = .ok (.iconst 1, 1) := dk_4 (dk_at dksX0_stock_0 15 rfl rfl)
theorem dX0_stock_16 : decode cX0_stock 16 = .ok (.ireturn, 1) := dk_172 (dk_at dksX0_stock_0 16 rfl rfl)
theorem dX0_stock_17 : decode cX0_stock 17 = .ok (.astore 4, 2) := dk_58 4 (dk_at dksX0_stock_0 17 rfl rfl)
theorem dX0_stock_19 : decode cX0_stock 19 = .ok (.iconst 2, 1) := dk_5 (dk_at dksX0_stock_0 19 rfl rfl)
theorem dX0_stock_20 : decode cX0_stock 20 = .ok (.ireturn, 1) := dk_172 (dk_at dksX0_stock_0 20 rfl rfl)
theorem dX0_stock_21 : decode cX0_stock 21 = .ok (.astore 4, 2) := dk_58 4 (dk_at dksX0_stock_0 21 rfl rfl)
theorem dX0_stock_23 : decode cX0_stock 23 = .ok (.iconst 3, 1) := dk_6 (dk_at dksX0_stock_0 23 rfl rfl)
theorem dX0_stock_24 : decode cX0_stock 24 = .ok (.ireturn, 1) := dk_172 (dk_at dksX0_stock_1 0 rfl rfl)
theorem dX0_stock_25 : decode cX0_stock 25 = .ok (.iconst 0, 1) := dk_3 (dk_at dksX0_stock_1 1 rfl rfl)
theorem dX0_stock_26 : decode cX0_stock 26 = .ok (.ireturn, 1) := dk_172 (dk_at dksX0_stock_1 2 rfl rfl)
abbrev cX0_platesNeeded : ByteArray := method_18_code
def yX0_platesNeeded : MethodName := ⟨RX0, "platesNeeded", "(LBinderyDesk;I[J)I"⟩
def dkwX0_platesNeeded_0 : List UInt8 := [44, 3, 42, 27, 182, 0, 70, 133, 80, 167, 0, 9, 78, 4, 172, 78, 5, 172, 3, 172]
abbrev dktX0_platesNeeded_0 : List UInt8 := dkwX0_platesNeeded_0 ++ []
theorem dksX0_platesNeeded_0 : cX0_platesNeeded.data.toList.drop 0 = dktX0_platesNeeded_0 := by decide +kernel
theorem dX0_platesNeeded_0 : decode cX0_platesNeeded 0 = .ok (.aload_n 2, 1) := dk_44 (dk_at dksX0_platesNeeded_0 0 rfl rfl)
theorem dX0_platesNeeded_1 : decode cX0_platesNeeded 1 = .ok (.iconst 0, 1) := dk_3 (dk_at dksX0_platesNeeded_0 1 rfl rfl)
theorem dX0_platesNeeded_2 : decode cX0_platesNeeded 2 = .ok (.aload_n 0, 1) := dk_42 (dk_at dksX0_platesNeeded_0 2 rfl rfl)
theorem dX0_platesNeeded_3 : decode cX0_platesNeeded 3 = .ok (.iload_n 1, 1) := dk_27 (dk_at dksX0_platesNeeded_0 3 rfl rfl)
theorem dX0_platesNeeded_4 : decode cX0_platesNeeded 4 = .ok (.invokevirtual 70, 3) := dk_182 0 70 (dk_at dksX0_platesNeeded_0 4 rfl rfl)
theorem dX0_platesNeeded_7 : decode cX0_platesNeeded 7 = .ok (.i2l, 1) := dk_133 (dk_at dksX0_platesNeeded_0 7 rfl rfl)
theorem dX0_platesNeeded_8 : decode cX0_platesNeeded 8 = .ok (.lastore, 1) := dk_80 (dk_at dksX0_platesNeeded_0 8 rfl rfl)
theorem dX0_platesNeeded_9 : decode cX0_platesNeeded 9 = .ok (.goto 9, 3) := dk_167 0 9 (dk_at dksX0_platesNeeded_0 9 rfl rfl)
theorem dX0_platesNeeded_12 : decode cX0_platesNeeded 12 = .ok (.astore_n 3, 1) := dk_78 (dk_at dksX0_platesNeeded_0 12 rfl rfl)
theorem dX0_platesNeeded_13 : decode cX0_platesNeeded 13 = .ok (.iconst 1, 1) := dk_4 (dk_at dksX0_platesNeeded_0 13 rfl rfl)
theorem dX0_platesNeeded_14 : decode cX0_platesNeeded 14 = .ok (.ireturn, 1) := dk_172 (dk_at dksX0_platesNeeded_0 14 rfl rfl)
theorem dX0_platesNeeded_15 : decode cX0_platesNeeded 15 = .ok (.astore_n 3, 1) := dk_78 (dk_at dksX0_platesNeeded_0 15 rfl rfl)
theorem dX0_platesNeeded_16 : decode cX0_platesNeeded 16 = .ok (.iconst 2, 1) := dk_5 (dk_at dksX0_platesNeeded_0 16 rfl rfl)
theorem dX0_platesNeeded_17 : decode cX0_platesNeeded 17 = .ok (.ireturn, 1) := dk_172 (dk_at dksX0_platesNeeded_0 17 rfl rfl)
theorem dX0_platesNeeded_18 : decode cX0_platesNeeded 18 = .ok (.iconst 0, 1) := dk_3 (dk_at dksX0_platesNeeded_0 18 rfl rfl)
theorem dX0_platesNeeded_19 : decode cX0_platesNeeded 19 = .ok (.ireturn, 1) := dk_172 (dk_at dksX0_platesNeeded_0 19 rfl rfl)
abbrev cX0_bind : ByteArray := method_19_code
def yX0_bind : MethodName := ⟨RX0, "bind", "(LBinderyDesk;II[J)I"⟩
def dkwX0_bind_1 : List UInt8 := [172, 58, 4, 7, 172, 3, 172]
abbrev dktX0_bind_1 : List UInt8 := dkwX0_bind_1 ++ []
def dkwX0_bind_0 : List UInt8 := [45, 3, 42, 27, 28, 182, 0, 73, 133, 80, 167, 0, 19, 58, 4, 4, 172, 58, 4, 5, 172, 58, 4, 6]
abbrev dktX0_bind_0 : List UInt8 := dkwX0_bind_0 ++ dktX0_bind_1
theorem dksX0_bind_0 : cX0_bind.data.toList.drop 0 = dktX0_bind_0 := by decide +kernel
theorem dksX0_bind_1 : cX0_bind.data.toList.drop 24 = dktX0_bind_1 := dk_seg dksX0_bind_0 24 rfl rfl
theorem dX0_bind_0 : decode cX0_bind 0 = .ok (.aload_n 3, 1) := dk_45 (dk_at dksX0_bind_0 0 rfl rfl)
theorem dX0_bind_1 : decode cX0_bind 1 = .ok (.iconst 0, 1) := dk_3 (dk_at dksX0_bind_0 1 rfl rfl)
theorem dX0_bind_2 : decode cX0_bind 2 = .ok (.aload_n 0, 1) := dk_42 (dk_at dksX0_bind_0 2 rfl rfl)
theorem dX0_bind_3 : decode cX0_bind 3 = .ok (.iload_n 1, 1) := dk_27 (dk_at dksX0_bind_0 3 rfl rfl)
theorem dX0_bind_4 : decode cX0_bind 4 = .ok (.iload_n 2, 1) := dk_28 (dk_at dksX0_bind_0 4 rfl rfl)
theorem dX0_bind_5 : decode cX0_bind 5 = .ok (.invokevirtual 73, 3) := dk_182 0 73 (dk_at dksX0_bind_0 5 rfl rfl)
theorem dX0_bind_8 : decode cX0_bind 8 = .ok (.i2l, 1) := dk_133 (dk_at dksX0_bind_0 8 rfl rfl)
theorem dX0_bind_9 : decode cX0_bind 9 = .ok (.lastore, 1) := dk_80 (dk_at dksX0_bind_0 9 rfl rfl)
theorem dX0_bind_10 : decode cX0_bind 10 = .ok (.goto 19, 3) := dk_167 0 19 (dk_at dksX0_bind_0 10 rfl rfl)
theorem dX0_bind_13 : decode cX0_bind 13 = .ok (.astore 4, 2) := dk_58 4 (dk_at dksX0_bind_0 13 rfl rfl)
theorem dX0_bind_15 : decode cX0_bind 15 = .ok (.iconst 1, 1) := dk_4 (dk_at dksX0_bind_0 15 rfl rfl)
theorem dX0_bind_16 : decode cX0_bind 16 = .ok (.ireturn, 1) := dk_172 (dk_at dksX0_bind_0 16 rfl rfl)
theorem dX0_bind_17 : decode cX0_bind 17 = .ok (.astore 4, 2) := dk_58 4 (dk_at dksX0_bind_0 17 rfl rfl)
theorem dX0_bind_19 : decode cX0_bind 19 = .ok (.iconst 2, 1) := dk_5 (dk_at dksX0_bind_0 19 rfl rfl)
theorem dX0_bind_20 : decode cX0_bind 20 = .ok (.ireturn, 1) := dk_172 (dk_at dksX0_bind_0 20 rfl rfl)
theorem dX0_bind_21 : decode cX0_bind 21 = .ok (.astore 4, 2) := dk_58 4 (dk_at dksX0_bind_0 21 rfl rfl)
theorem dX0_bind_23 : decode cX0_bind 23 = .ok (.iconst 3, 1) := dk_6 (dk_at dksX0_bind_0 23 rfl rfl)
theorem dX0_bind_24 : decode cX0_bind 24 = .ok (.ireturn, 1) := dk_172 (dk_at dksX0_bind_1 0 rfl rfl)
theorem dX0_bind_25 : decode cX0_bind 25 = .ok (.astore 4, 2) := dk_58 4 (dk_at dksX0_bind_1 1 rfl rfl)
theorem dX0_bind_27 : decode cX0_bind 27 = .ok (.iconst 4, 1) := dk_7 (dk_at dksX0_bind_1 3 rfl rfl)
theorem dX0_bind_28 : decode cX0_bind 28 = .ok (.ireturn, 1) := dk_172 (dk_at dksX0_bind_1 4 rfl rfl)
theorem dX0_bind_29 : decode cX0_bind 29 = .ok (.iconst 0, 1) := dk_3 (dk_at dksX0_bind_1 5 rfl rfl)
theorem dX0_bind_30 : decode cX0_bind 30 = .ok (.ireturn, 1) := dk_172 (dk_at dksX0_bind_1 6 rfl rfl)
abbrev cX0_lacks : ByteArray := method_20_code
def yX0_lacks : MethodName := ⟨RX0, "lacks", "(LBinderyDesk;II[J)I"⟩
def dkwX0_lacks_1 : List UInt8 := [172, 3, 172]
abbrev dktX0_lacks_1 : List UInt8 := dkwX0_lacks_1 ++ []
def dkwX0_lacks_0 : List UInt8 := [45, 3, 42, 27, 28, 182, 0, 76, 133, 80, 167, 0, 15, 58, 4, 4, 172, 58, 4, 5, 172, 58, 4, 6]
abbrev dktX0_lacks_0 : List UInt8 := dkwX0_lacks_0 ++ dktX0_lacks_1
theorem dksX0_lacks_0 : cX0_lacks.data.toList.drop 0 = dktX0_lacks_0 := by decide +kernel
theorem dksX0_lacks_1 : cX0_lacks.data.toList.drop 24 = dktX0_lacks_1 := dk_seg dksX0_lacks_0 24 rfl rfl
theorem dX0_lacks_0 : decode cX0_lacks 0 = .ok (.aload_n 3, 1) := dk_45 (dk_at dksX0_lacks_0 0 rfl rfl)
theorem dX0_lacks_1 : decode cX0_lacks 1 = .ok (.iconst 0, 1) := dk_3 (dk_at dksX0_lacks_0 1 rfl rfl)
theorem dX0_lacks_2 : decode cX0_lacks 2 = .ok (.aload_n 0, 1) := dk_42 (dk_at dksX0_lacks_0 2 rfl rfl)
theorem dX0_lacks_3 : decode cX0_lacks 3 = .ok (.iload_n 1, 1) := dk_27 (dk_at dksX0_lacks_0 3 rfl rfl)
theorem dX0_lacks_4 : decode cX0_lacks 4 = .ok (.iload_n 2, 1) := dk_28 (dk_at dksX0_lacks_0 4 rfl rfl)
theorem dX0_lacks_5 : decode cX0_lacks 5 = .ok (.invokevirtual 76, 3) := dk_182 0 76 (dk_at dksX0_lacks_0 5 rfl rfl)
theorem dX0_lacks_8 : decode cX0_lacks 8 = .ok (.i2l, 1) := dk_133 (dk_at dksX0_lacks_0 8 rfl rfl)
theorem dX0_lacks_9 : decode cX0_lacks 9 = .ok (.lastore, 1) := dk_80 (dk_at dksX0_lacks_0 9 rfl rfl)
theorem dX0_lacks_10 : decode cX0_lacks 10 = .ok (.goto 15, 3) := dk_167 0 15 (dk_at dksX0_lacks_0 10 rfl rfl)
theorem dX0_lacks_13 : decode cX0_lacks 13 = .ok (.astore 4, 2) := dk_58 4 (dk_at dksX0_lacks_0 13 rfl rfl)
theorem dX0_lacks_15 : decode cX0_lacks 15 = .ok (.iconst 1, 1) := dk_4 (dk_at dksX0_lacks_0 15 rfl rfl)
theorem dX0_lacks_16 : decode cX0_lacks 16 = .ok (.ireturn, 1) := dk_172 (dk_at dksX0_lacks_0 16 rfl rfl)
theorem dX0_lacks_17 : decode cX0_lacks 17 = .ok (.astore 4, 2) := dk_58 4 (dk_at dksX0_lacks_0 17 rfl rfl)
theorem dX0_lacks_19 : decode cX0_lacks 19 = .ok (.iconst 2, 1) := dk_5 (dk_at dksX0_lacks_0 19 rfl rfl)
theorem dX0_lacks_20 : decode cX0_lacks 20 = .ok (.ireturn, 1) := dk_172 (dk_at dksX0_lacks_0 20 rfl rfl)
theorem dX0_lacks_21 : decode cX0_lacks 21 = .ok (.astore 4, 2) := dk_58 4 (dk_at dksX0_lacks_0 21 rfl rfl)
theorem dX0_lacks_23 : decode cX0_lacks 23 = .ok (.iconst 3, 1) := dk_6 (dk_at dksX0_lacks_0 23 rfl rfl)
theorem dX0_lacks_24 : decode cX0_lacks 24 = .ok (.ireturn, 1) := dk_172 (dk_at dksX0_lacks_1 0 rfl rfl)
theorem dX0_lacks_25 : decode cX0_lacks 25 = .ok (.iconst 0, 1) := dk_3 (dk_at dksX0_lacks_1 1 rfl rfl)
theorem dX0_lacks_26 : decode cX0_lacks 26 = .ok (.ireturn, 1) := dk_172 (dk_at dksX0_lacks_1 2 rfl rfl)
abbrev cX0_copies : ByteArray := method_21_code
def yX0_copies : MethodName := ⟨RX0, "copies", "(LBinderyDesk;I[J)I"⟩
def dkwX0_copies_0 : List UInt8 := [44, 3, 42, 27, 182, 0, 79, 133, 80, 167, 0, 6, 78, 4, 172, 3, 172]
abbrev dktX0_copies_0 : List UInt8 := dkwX0_copies_0 ++ []
theorem dksX0_copies_0 : cX0_copies.data.toList.drop 0 = dktX0_copies_0 := by decide +kernel
theorem dX0_copies_0 : decode cX0_copies 0 = .ok (.aload_n 2, 1) := dk_44 (dk_at dksX0_copies_0 0 rfl rfl)
theorem dX0_copies_1 : decode cX0_copies 1 = .ok (.iconst 0, 1) := dk_3 (dk_at dksX0_copies_0 1 rfl rfl)
theorem dX0_copies_2 : decode cX0_copies 2 = .ok (.aload_n 0, 1) := dk_42 (dk_at dksX0_copies_0 2 rfl rfl)
theorem dX0_copies_3 : decode cX0_copies 3 = .ok (.iload_n 1, 1) := dk_27 (dk_at dksX0_copies_0 3 rfl rfl)
theorem dX0_copies_4 : decode cX0_copies 4 = .ok (.invokevirtual 79, 3) := dk_182 0 79 (dk_at dksX0_copies_0 4 rfl rfl)
theorem dX0_copies_7 : decode cX0_copies 7 = .ok (.i2l, 1) := dk_133 (dk_at dksX0_copies_0 7 rfl rfl)
theorem dX0_copies_8 : decode cX0_copies 8 = .ok (.lastore, 1) := dk_80 (dk_at dksX0_copies_0 8 rfl rfl)
theorem dX0_copies_9 : decode cX0_copies 9 = .ok (.goto 6, 3) := dk_167 0 6 (dk_at dksX0_copies_0 9 rfl rfl)
theorem dX0_copies_12 : decode cX0_copies 12 = .ok (.astore_n 3, 1) := dk_78 (dk_at dksX0_copies_0 12 rfl rfl)
theorem dX0_copies_13 : decode cX0_copies 13 = .ok (.iconst 1, 1) := dk_4 (dk_at dksX0_copies_0 13 rfl rfl)
theorem dX0_copies_14 : decode cX0_copies 14 = .ok (.ireturn, 1) := dk_172 (dk_at dksX0_copies_0 14 rfl rfl)
theorem dX0_copies_15 : decode cX0_copies 15 = .ok (.iconst 0, 1) := dk_3 (dk_at dksX0_copies_0 15 rfl rfl)
theorem dX0_copies_16 : decode cX0_copies 16 = .ok (.ireturn, 1) := dk_172 (dk_at dksX0_copies_0 16 rfl rfl)
abbrev cX0_stateIn : ByteArray := method_22_code
def yX0_stateIn : MethodName := ⟨RX0, "stateIn", "(LBinderyDesk;II[J)I"⟩
def dkwX0_stateIn_0 : List UInt8 := [45, 3, 42, 27, 28, 182, 0, 82, 133, 80, 167, 0, 11, 58, 4, 4, 172, 58, 4, 5, 172, 3, 172]
abbrev dktX0_stateIn_0 : List UInt8 := dkwX0_stateIn_0 ++ []
theorem dksX0_stateIn_0 : cX0_stateIn.data.toList.drop 0 = dktX0_stateIn_0 := by decide +kernel
theorem dX0_stateIn_0 : decode cX0_stateIn 0 = .ok (.aload_n 3, 1) := dk_45 (dk_at dksX0_stateIn_0 0 rfl rfl)
theorem dX0_stateIn_1 : decode cX0_stateIn 1 = .ok (.iconst 0, 1) := dk_3 (dk_at dksX0_stateIn_0 1 rfl rfl)
theorem dX0_stateIn_2 : decode cX0_stateIn 2 = .ok (.aload_n 0, 1) := dk_42 (dk_at dksX0_stateIn_0 2 rfl rfl)
theorem dX0_stateIn_3 : decode cX0_stateIn 3 = .ok (.iload_n 1, 1) := dk_27 (dk_at dksX0_stateIn_0 3 rfl rfl)
theorem dX0_stateIn_4 : decode cX0_stateIn 4 = .ok (.iload_n 2, 1) := dk_28 (dk_at dksX0_stateIn_0 4 rfl rfl)
theorem dX0_stateIn_5 : decode cX0_stateIn 5 = .ok (.invokevirtual 82, 3) := dk_182 0 82 (dk_at dksX0_stateIn_0 5 rfl rfl)
theorem dX0_stateIn_8 : decode cX0_stateIn 8 = .ok (.i2l, 1) := dk_133 (dk_at dksX0_stateIn_0 8 rfl rfl)
theorem dX0_stateIn_9 : decode cX0_stateIn 9 = .ok (.lastore, 1) := dk_80 (dk_at dksX0_stateIn_0 9 rfl rfl)
theorem dX0_stateIn_10 : decode cX0_stateIn 10 = .ok (.goto 11, 3) := dk_167 0 11 (dk_at dksX0_stateIn_0 10 rfl rfl)
theorem dX0_stateIn_13 : decode cX0_stateIn 13 = .ok (.astore 4, 2) := dk_58 4 (dk_at dksX0_stateIn_0 13 rfl rfl)
theorem dX0_stateIn_15 : decode cX0_stateIn 15 = .ok (.iconst 1, 1) := dk_4 (dk_at dksX0_stateIn_0 15 rfl rfl)
theorem dX0_stateIn_16 : decode cX0_stateIn 16 = .ok (.ireturn, 1) := dk_172 (dk_at dksX0_stateIn_0 16 rfl rfl)
theorem dX0_stateIn_17 : decode cX0_stateIn 17 = .ok (.astore 4, 2) := dk_58 4 (dk_at dksX0_stateIn_0 17 rfl rfl)
theorem dX0_stateIn_19 : decode cX0_stateIn 19 = .ok (.iconst 2, 1) := dk_5 (dk_at dksX0_stateIn_0 19 rfl rfl)
theorem dX0_stateIn_20 : decode cX0_stateIn 20 = .ok (.ireturn, 1) := dk_172 (dk_at dksX0_stateIn_0 20 rfl rfl)
theorem dX0_stateIn_21 : decode cX0_stateIn 21 = .ok (.iconst 0, 1) := dk_3 (dk_at dksX0_stateIn_0 21 rfl rfl)
theorem dX0_stateIn_22 : decode cX0_stateIn 22 = .ok (.ireturn, 1) := dk_172 (dk_at dksX0_stateIn_0 22 rfl rfl)
abbrev cX0_stateByReplay : ByteArray := method_23_code
def yX0_stateByReplay : MethodName := ⟨RX0, "stateByReplay", "(LBinderyDesk;II[J)I"⟩
def dkwX0_stateByReplay_0 : List UInt8 := [45, 3, 42, 27, 28, 182, 0, 85, 133, 80, 167, 0, 11, 58, 4, 4, 172, 58, 4, 5, 172, 3, 172]
abbrev dktX0_stateByReplay_0 : List UInt8 := dkwX0_stateByReplay_0 ++ []
theorem dksX0_stateByReplay_0 : cX0_stateByReplay.data.toList.drop 0 = dktX0_stateByReplay_0 := by decide +kernel
theorem dX0_stateByReplay_0 : decode cX0_stateByReplay 0 = .ok (.aload_n 3, 1) := dk_45 (dk_at dksX0_stateByReplay_0 0 rfl rfl)
theorem dX0_stateByReplay_1 : decode cX0_stateByReplay 1 = .ok (.iconst 0, 1) := dk_3 (dk_at dksX0_stateByReplay_0 1 rfl rfl)
theorem dX0_stateByReplay_2 : decode cX0_stateByReplay 2 = .ok (.aload_n 0, 1) := dk_42 (dk_at dksX0_stateByReplay_0 2 rfl rfl)
theorem dX0_stateByReplay_3 : decode cX0_stateByReplay 3 = .ok (.iload_n 1, 1) := dk_27 (dk_at dksX0_stateByReplay_0 3 rfl rfl)
theorem dX0_stateByReplay_4 : decode cX0_stateByReplay 4 = .ok (.iload_n 2, 1) := dk_28 (dk_at dksX0_stateByReplay_0 4 rfl rfl)
theorem dX0_stateByReplay_5 : decode cX0_stateByReplay 5 = .ok (.invokevirtual 85, 3) := dk_182 0 85 (dk_at dksX0_stateByReplay_0 5 rfl rfl)
theorem dX0_stateByReplay_8 : decode cX0_stateByReplay 8 = .ok (.i2l, 1) := dk_133 (dk_at dksX0_stateByReplay_0 8 rfl rfl)
theorem dX0_stateByReplay_9 : decode cX0_stateByReplay 9 = .ok (.lastore, 1) := dk_80 (dk_at dksX0_stateByReplay_0 9 rfl rfl)
theorem dX0_stateByReplay_10 : decode cX0_stateByReplay 10 = .ok (.goto 11, 3) := dk_167 0 11 (dk_at dksX0_stateByReplay_0 10 rfl rfl)
theorem dX0_stateByReplay_13 : decode cX0_stateByReplay 13 = .ok (.astore 4, 2) := dk_58 4 (dk_at dksX0_stateByReplay_0 13 rfl rfl)
theorem dX0_stateByReplay_15 : decode cX0_stateByReplay 15 = .ok (.iconst 1, 1) := dk_4 (dk_at dksX0_stateByReplay_0 15 rfl rfl)
theorem dX0_stateByReplay_16 : decode cX0_stateByReplay 16 = .ok (.ireturn, 1) := dk_172 (dk_at dksX0_stateByReplay_0 16 rfl rfl)
theorem dX0_stateByReplay_17 : decode cX0_stateByReplay 17 = .ok (.astore 4, 2) := dk_58 4 (dk_at dksX0_stateByReplay_0 17 rfl rfl)
theorem dX0_stateByReplay_19 : decode cX0_stateByReplay 19 = .ok (.iconst 2, 1) := dk_5 (dk_at dksX0_stateByReplay_0 19 rfl rfl)
theorem dX0_stateByReplay_20 : decode cX0_stateByReplay 20 = .ok (.ireturn, 1) := dk_172 (dk_at dksX0_stateByReplay_0 20 rfl rfl)
theorem dX0_stateByReplay_21 : decode cX0_stateByReplay 21 = .ok (.iconst 0, 1) := dk_3 (dk_at dksX0_stateByReplay_0 21 rfl rfl)
theorem dX0_stateByReplay_22 : decode cX0_stateByReplay 22 = .ok (.ireturn, 1) := dk_172 (dk_at dksX0_stateByReplay_0 22 rfl rfl)
abbrev cX0_outdated : ByteArray := method_24_code
def yX0_outdated : MethodName := ⟨RX0, "outdated", "(LBinderyDesk;I[J)I"⟩
def dkwX0_outdated_0 : List UInt8 := [44, 3, 42, 27, 182, 0, 88, 133, 80, 167, 0, 6, 78, 4, 172, 3, 172]
abbrev dktX0_outdated_0 : List UInt8 := dkwX0_outdated_0 ++ []
theorem dksX0_outdated_0 : cX0_outdated.data.toList.drop 0 = dktX0_outdated_0 := by decide +kernel
theorem dX0_outdated_0 : decode cX0_outdated 0 = .ok (.aload_n 2, 1) := dk_44 (dk_at dksX0_outdated_0 0 rfl rfl)
theorem dX0_outdated_1 : decode cX0_outdated 1 = .ok (.iconst 0, 1) := dk_3 (dk_at dksX0_outdated_0 1 rfl rfl)
theorem dX0_outdated_2 : decode cX0_outdated 2 = .ok (.aload_n 0, 1) := dk_42 (dk_at dksX0_outdated_0 2 rfl rfl)
theorem dX0_outdated_3 : decode cX0_outdated 3 = .ok (.iload_n 1, 1) := dk_27 (dk_at dksX0_outdated_0 3 rfl rfl)
theorem dX0_outdated_4 : decode cX0_outdated 4 = .ok (.invokevirtual 88, 3) := dk_182 0 88 (dk_at dksX0_outdated_0 4 rfl rfl)
theorem dX0_outdated_7 : decode cX0_outdated 7 = .ok (.i2l, 1) := dk_133 (dk_at dksX0_outdated_0 7 rfl rfl)
theorem dX0_outdated_8 : decode cX0_outdated 8 = .ok (.lastore, 1) := dk_80 (dk_at dksX0_outdated_0 8 rfl rfl)
theorem dX0_outdated_9 : decode cX0_outdated 9 = .ok (.goto 6, 3) := dk_167 0 6 (dk_at dksX0_outdated_0 9 rfl rfl)
theorem dX0_outdated_12 : decode cX0_outdated 12 = .ok (.astore_n 3, 1) := dk_78 (dk_at dksX0_outdated_0 12 rfl rfl)
theorem dX0_outdated_13 : decode cX0_outdated 13 = .ok (.iconst 1, 1) := dk_4 (dk_at dksX0_outdated_0 13 rfl rfl)
theorem dX0_outdated_14 : decode cX0_outdated 14 = .ok (.ireturn, 1) := dk_172 (dk_at dksX0_outdated_0 14 rfl rfl)
theorem dX0_outdated_15 : decode cX0_outdated 15 = .ok (.iconst 0, 1) := dk_3 (dk_at dksX0_outdated_0 15 rfl rfl)
theorem dX0_outdated_16 : decode cX0_outdated 16 = .ok (.ireturn, 1) := dk_172 (dk_at dksX0_outdated_0 16 rfl rfl)
abbrev cX0_wasteShare : ByteArray := method_25_code
def yX0_wasteShare : MethodName := ⟨RX0, "wasteShare", "(LBinderyDesk;[D)I"⟩
def dkwX0_wasteShare_0 : List UInt8 := [43, 3, 42, 182, 0, 91, 141, 82, 167, 0, 6, 77, 4, 172, 3, 172]
abbrev dktX0_wasteShare_0 : List UInt8 := dkwX0_wasteShare_0 ++ []
theorem dksX0_wasteShare_0 : cX0_wasteShare.data.toList.drop 0 = dktX0_wasteShare_0 := by decide +kernel
theorem dX0_wasteShare_0 : decode cX0_wasteShare 0 = .ok (.aload_n 1, 1) := dk_43 (dk_at dksX0_wasteShare_0 0 rfl rfl)
theorem dX0_wasteShare_1 : decode cX0_wasteShare 1 = .ok (.iconst 0, 1) := dk_3 (dk_at dksX0_wasteShare_0 1 rfl rfl)
theorem dX0_wasteShare_2 : decode cX0_wasteShare 2 = .ok (.aload_n 0, 1) := dk_42 (dk_at dksX0_wasteShare_0 2 rfl rfl)
theorem dX0_wasteShare_3 : decode cX0_wasteShare 3 = .ok (.invokevirtual 91, 3) := dk_182 0 91 (dk_at dksX0_wasteShare_0 3 rfl rfl)
theorem dX0_wasteShare_6 : decode cX0_wasteShare 6 = .ok (.f2d, 1) := dk_141 (dk_at dksX0_wasteShare_0 6 rfl rfl)
theorem dX0_wasteShare_7 : decode cX0_wasteShare 7 = .ok (.dastore, 1) := dk_82 (dk_at dksX0_wasteShare_0 7 rfl rfl)
theorem dX0_wasteShare_8 : decode cX0_wasteShare 8 = .ok (.goto 6, 3) := dk_167 0 6 (dk_at dksX0_wasteShare_0 8 rfl rfl)
theorem dX0_wasteShare_11 : decode cX0_wasteShare 11 = .ok (.astore_n 2, 1) := dk_77 (dk_at dksX0_wasteShare_0 11 rfl rfl)
theorem dX0_wasteShare_12 : decode cX0_wasteShare 12 = .ok (.iconst 1, 1) := dk_4 (dk_at dksX0_wasteShare_0 12 rfl rfl)
theorem dX0_wasteShare_13 : decode cX0_wasteShare 13 = .ok (.ireturn, 1) := dk_172 (dk_at dksX0_wasteShare_0 13 rfl rfl)
theorem dX0_wasteShare_14 : decode cX0_wasteShare 14 = .ok (.iconst 0, 1) := dk_3 (dk_at dksX0_wasteShare_0 14 rfl rfl)
theorem dX0_wasteShare_15 : decode cX0_wasteShare 15 = .ok (.ireturn, 1) := dk_172 (dk_at dksX0_wasteShare_0 15 rfl rfl)
abbrev cX0_meanMakeready : ByteArray := method_26_code
def yX0_meanMakeready : MethodName := ⟨RX0, "meanMakeready", "(LBinderyDesk;[D)I"⟩
def dkwX0_meanMakeready_0 : List UInt8 := [43, 3, 42, 182, 0, 97, 82, 167, 0, 6, 77, 4, 172, 3, 172]
abbrev dktX0_meanMakeready_0 : List UInt8 := dkwX0_meanMakeready_0 ++ []
theorem dksX0_meanMakeready_0 : cX0_meanMakeready.data.toList.drop 0 = dktX0_meanMakeready_0 := by decide +kernel
theorem dX0_meanMakeready_0 : decode cX0_meanMakeready 0 = .ok (.aload_n 1, 1) := dk_43 (dk_at dksX0_meanMakeready_0 0 rfl rfl)
theorem dX0_meanMakeready_1 : decode cX0_meanMakeready 1 = .ok (.iconst 0, 1) := dk_3 (dk_at dksX0_meanMakeready_0 1 rfl rfl)
theorem dX0_meanMakeready_2 : decode cX0_meanMakeready 2 = .ok (.aload_n 0, 1) := dk_42 (dk_at dksX0_meanMakeready_0 2 rfl rfl)
theorem dX0_meanMakeready_3 : decode cX0_meanMakeready 3 = .ok (.invokevirtual 97, 3) := dk_182 0 97 (dk_at dksX0_meanMakeready_0 3 rfl rfl)
theorem dX0_meanMakeready_6 : decode cX0_meanMakeready 6 = .ok (.dastore, 1) := dk_82 (dk_at dksX0_meanMakeready_0 6 rfl rfl)
theorem dX0_meanMakeready_7 : decode cX0_meanMakeready 7 = .ok (.goto 6, 3) := dk_167 0 6 (dk_at dksX0_meanMakeready_0 7 rfl rfl)
theorem dX0_meanMakeready_10 : decode cX0_meanMakeready 10 = .ok (.astore_n 2, 1) := dk_77 (dk_at dksX0_meanMakeready_0 10 rfl rfl)
theorem dX0_meanMakeready_11 : decode cX0_meanMakeready 11 = .ok (.iconst 1, 1) := dk_4 (dk_at dksX0_meanMakeready_0 11 rfl rfl)
theorem dX0_meanMakeready_12 : decode cX0_meanMakeready 12 = .ok (.ireturn, 1) := dk_172 (dk_at dksX0_meanMakeready_0 12 rfl rfl)
theorem dX0_meanMakeready_13 : decode cX0_meanMakeready 13 = .ok (.iconst 0, 1) := dk_3 (dk_at dksX0_meanMakeready_0 13 rfl rfl)
theorem dX0_meanMakeready_14 : decode cX0_meanMakeready 14 = .ok (.ireturn, 1) := dk_172 (dk_at dksX0_meanMakeready_0 14 rfl rfl)
theorem q40 : (Jvm.Cond.initialized "BinderyDeskLaw") ∈ lw_all := lw_g (lw_at lw_m1 0 rfl) rfl
theorem q85 : (Jvm.Cond.classLink "BinderyDeskLaw" (8 : Nat) "BinderyDesk") ∈ lw_all := lw_g (lw_at lw_m1 45 rfl) rfl
theorem q87 : (Jvm.Cond.methodLink "BinderyDeskLaw" (101 : Nat) ({ cls := "BinderyDesk", name := "<init>", desc := "()V" } : Jvm.MethodName)) ∈ lw_all := lw_g (lw_at lw_m1 47 rfl) rfl
theorem q217 : (Jvm.Cond.methodLink "BinderyDeskLaw" (160 : Nat) ({ cls := "BinderyDesk", name := "plates", desc := "()I" } : Jvm.MethodName)) ∈ lw_all := lw_g (lw_at lw_m1 177 rfl) rfl
theorem q234 : (Jvm.Cond.methodLink "BinderyDeskLaw" (173 : Nat) ({ cls := "BinderyDesk", name := "lots", desc := "()I" } : Jvm.MethodName)) ∈ lw_all := lw_g (lw_at lw_m1 194 rfl) rfl
theorem q248 : (Jvm.Cond.methodLink "BinderyDeskLaw" (189 : Nat) ({ cls := "BinderyDesk", name := "waste", desc := "()J" } : Jvm.MethodName)) ∈ lw_all := lw_g (lw_at lw_m1 208 rfl) rfl
theorem q258 : (Jvm.Cond.methodLink "BinderyDeskLaw" (105 : Nat) ({ cls := "BinderyDeskLaw", name := "addContent", desc := "(LBinderyDesk;[J)I" } : Jvm.MethodName)) ∈ lw_all := lw_g (lw_at lw_m1 218 rfl) rfl
theorem q259 : (Jvm.Cond.static ({ cls := "BinderyDeskLaw", name := "addContent", desc := "(LBinderyDesk;[J)I" } : Jvm.MethodName)) ∈ lw_all := lw_g (lw_at lw_m1 219 rfl) rfl
theorem q260 : (Jvm.Cond.codeWith ({ cls := "BinderyDeskLaw", name := "addContent", desc := "(LBinderyDesk;[J)I" } : Jvm.MethodName) method_3_code (3 : Nat) (Option.some Jvm.ClassFile.FieldType.int) [((0 : Nat), (8 : Nat), (11 : Nat), (13 : Nat))]) ∈ lw_all := lw_g (lw_at lw_m1 220 rfl) rfl
theorem q261 : (Jvm.Cond.classLink "BinderyDeskLaw" (13 : Nat) "java/lang/IllegalStateException") ∈ lw_all := lw_g (lw_at lw_m1 221 rfl) rfl
theorem q262 : (Jvm.Cond.methodLink "BinderyDeskLaw" (7 : Nat) ({ cls := "BinderyDesk", name := "addContent", desc := "()I" } : Jvm.MethodName)) ∈ lw_all := lw_g (lw_at lw_m1 222 rfl) rfl
theorem q436 : (Jvm.Cond.methodLink "BinderyDeskLaw" (114 : Nat) ({ cls := "BinderyDeskLaw", name := "approve", desc := "(LBinderyDesk;I[J)I" } : Jvm.MethodName)) ∈ lw_all := lw_g (lw_at lw_m2 156 rfl) rfl
theorem q437 : (Jvm.Cond.static ({ cls := "BinderyDeskLaw", name := "approve", desc := "(LBinderyDesk;I[J)I" } : Jvm.MethodName)) ∈ lw_all := lw_g (lw_at lw_m2 157 rfl) rfl
theorem q438 : (Jvm.Cond.codeWith ({ cls := "BinderyDeskLaw", name := "approve", desc := "(LBinderyDesk;I[J)I" } : Jvm.MethodName) method_4_code (4 : Nat) (Option.some Jvm.ClassFile.FieldType.int) [((0 : Nat), (16 : Nat), (19 : Nat), (19 : Nat))]) ∈ lw_all := lw_g (lw_at lw_m2 158 rfl) rfl
theorem q439 : (Jvm.Cond.classLink "BinderyDeskLaw" (19 : Nat) "java/lang/IndexOutOfBoundsException") ∈ lw_all := lw_g (lw_at lw_m2 159 rfl) rfl
theorem q472 : (Jvm.Cond.methodLink "BinderyDeskLaw" (15 : Nat) ({ cls := "BinderyDesk", name := "approve", desc := "(I)Z" } : Jvm.MethodName)) ∈ lw_all := lw_g (lw_at lw_m2 192 rfl) rfl
theorem q517 : (Jvm.Cond.methodLink "BinderyDeskLaw" (118 : Nat) ({ cls := "BinderyDeskLaw", name := "correct", desc := "(LBinderyDesk;I[J)I" } : Jvm.MethodName)) ∈ lw_all := lw_g (lw_at lw_m2 237 rfl) rfl
theorem q518 : (Jvm.Cond.static ({ cls := "BinderyDeskLaw", name := "correct", desc := "(LBinderyDesk;I[J)I" } : Jvm.MethodName)) ∈ lw_all := lw_g (lw_at lw_m2 238 rfl) rfl
theorem q519 : (Jvm.Cond.codeWith ({ cls := "BinderyDeskLaw", name := "correct", desc := "(LBinderyDesk;I[J)I" } : Jvm.MethodName) method_5_code (4 : Nat) (Option.some Jvm.ClassFile.FieldType.int) [((0 : Nat), (9 : Nat), (12 : Nat), (19 : Nat)), ((0 : Nat), (9 : Nat), (15 : Nat), (13 : Nat))]) ∈ lw_all := lw_g (lw_at lw_m2 239 rfl) rfl
theorem q520 : (Jvm.Cond.methodLink "BinderyDeskLaw" (21 : Nat) ({ cls := "BinderyDesk", name := "correct", desc := "(I)I" } : Jvm.MethodName)) ∈ lw_all := lw_g (lw_at lw_m3 0 rfl) rfl
theorem q704 : (Jvm.Cond.methodLink "BinderyDeskLaw" (121 : Nat) ({ cls := "BinderyDeskLaw", name := "state", desc := "(LBinderyDesk;I[J)I" } : Jvm.MethodName)) ∈ lw_all := lw_g (lw_at lw_m3 184 rfl) rfl
theorem q705 : (Jvm.Cond.static ({ cls := "BinderyDeskLaw", name := "state", desc := "(LBinderyDesk;I[J)I" } : Jvm.MethodName)) ∈ lw_all := lw_g (lw_at lw_m3 185 rfl) rfl
theorem q706 : (Jvm.Cond.codeWith ({ cls := "BinderyDeskLaw", name := "state", desc := "(LBinderyDesk;I[J)I" } : Jvm.MethodName) method_6_code (4 : Nat) (Option.some Jvm.ClassFile.FieldType.int) [((0 : Nat), (9 : Nat), (12 : Nat), (19 : Nat))]) ∈ lw_all := lw_g (lw_at lw_m3 186 rfl) rfl
theorem q707 : (Jvm.Cond.methodLink "BinderyDeskLaw" (25 : Nat) ({ cls := "BinderyDesk", name := "state", desc := "(I)I" } : Jvm.MethodName)) ∈ lw_all := lw_g (lw_at lw_m3 187 rfl) rfl
theorem q711 : (Jvm.Cond.methodLink "BinderyDeskLaw" (124 : Nat) ({ cls := "BinderyDeskLaw", name := "addJob", desc := "(LBinderyDesk;C[J)I" } : Jvm.MethodName)) ∈ lw_all := lw_g (lw_at lw_m3 191 rfl) rfl
theorem q712 : (Jvm.Cond.static ({ cls := "BinderyDeskLaw", name := "addJob", desc := "(LBinderyDesk;C[J)I" } : Jvm.MethodName)) ∈ lw_all := lw_g (lw_at lw_m3 192 rfl) rfl
theorem q713 : (Jvm.Cond.codeWith ({ cls := "BinderyDeskLaw", name := "addJob", desc := "(LBinderyDesk;C[J)I" } : Jvm.MethodName) method_7_code (4 : Nat) (Option.some Jvm.ClassFile.FieldType.int) [((0 : Nat), (9 : Nat), (12 : Nat), (32 : Nat)), ((0 : Nat), (9 : Nat), (15 : Nat), (13 : Nat))]) ∈ lw_all := lw_g (lw_at lw_m3 193 rfl) rfl
theorem q714 : (Jvm.Cond.classLink "BinderyDeskLaw" (32 : Nat) "java/lang/IllegalArgumentException") ∈ lw_all := lw_g (lw_at lw_m3 194 rfl) rfl
theorem q715 : (Jvm.Cond.methodLink "BinderyDeskLaw" (28 : Nat) ({ cls := "BinderyDesk", name := "addJob", desc := "(C)I" } : Jvm.MethodName)) ∈ lw_all := lw_g (lw_at lw_m3 195 rfl) rfl
theorem q784 : (Jvm.Cond.methodLink "BinderyDeskLaw" (128 : Nat) ({ cls := "BinderyDeskLaw", name := "addPage", desc := "(LBinderyDesk;II[J)I" } : Jvm.MethodName)) ∈ lw_all := lw_g (lw_at lw_m4 24 rfl) rfl
theorem q785 : (Jvm.Cond.static ({ cls := "BinderyDeskLaw", name := "addPage", desc := "(LBinderyDesk;II[J)I" } : Jvm.MethodName)) ∈ lw_all := lw_g (lw_at lw_m4 25 rfl) rfl
theorem q786 : (Jvm.Cond.codeWith ({ cls := "BinderyDeskLaw", name := "addPage", desc := "(LBinderyDesk;II[J)I" } : Jvm.MethodName) method_8_code (5 : Nat) (Option.some Jvm.ClassFile.FieldType.int) [((0 : Nat), (10 : Nat), (13 : Nat), (19 : Nat)), ((0 : Nat), (10 : Nat), (17 : Nat), (13 : Nat))]) ∈ lw_all := lw_g (lw_at lw_m4 26 rfl) rfl
theorem q787 : (Jvm.Cond.methodLink "BinderyDeskLaw" (34 : Nat) ({ cls := "BinderyDesk", name := "addPage", desc := "(II)I" } : Jvm.MethodName)) ∈ lw_all := lw_g (lw_at lw_m4 27 rfl) rfl
theorem q795 : (Jvm.Cond.methodLink "BinderyDeskLaw" (132 : Nat) ({ cls := "BinderyDeskLaw", name := "pages", desc := "(LBinderyDesk;I[J)I" } : Jvm.MethodName)) ∈ lw_all := lw_g (lw_at lw_m4 35 rfl) rfl
theorem q796 : (Jvm.Cond.static ({ cls := "BinderyDeskLaw", name := "pages", desc := "(LBinderyDesk;I[J)I" } : Jvm.MethodName)) ∈ lw_all := lw_g (lw_at lw_m4 36 rfl) rfl
theorem q797 : (Jvm.Cond.codeWith ({ cls := "BinderyDeskLaw", name := "pages", desc := "(LBinderyDesk;I[J)I" } : Jvm.MethodName) method_9_code (4 : Nat) (Option.some Jvm.ClassFile.FieldType.int) [((0 : Nat), (9 : Nat), (12 : Nat), (19 : Nat))]) ∈ lw_all := lw_g (lw_at lw_m4 37 rfl) rfl
theorem q798 : (Jvm.Cond.methodLink "BinderyDeskLaw" (38 : Nat) ({ cls := "BinderyDesk", name := "pages", desc := "(I)I" } : Jvm.MethodName)) ∈ lw_all := lw_g (lw_at lw_m4 38 rfl) rfl
theorem q802 : (Jvm.Cond.methodLink "BinderyDeskLaw" (135 : Nat) ({ cls := "BinderyDeskLaw", name := "sheets", desc := "(LBinderyDesk;I[J)I" } : Jvm.MethodName)) ∈ lw_all := lw_g (lw_at lw_m4 42 rfl) rfl
theorem q803 : (Jvm.Cond.static ({ cls := "BinderyDeskLaw", name := "sheets", desc := "(LBinderyDesk;I[J)I" } : Jvm.MethodName)) ∈ lw_all := lw_g (lw_at lw_m4 43 rfl) rfl
theorem q804 : (Jvm.Cond.codeWith ({ cls := "BinderyDeskLaw", name := "sheets", desc := "(LBinderyDesk;I[J)I" } : Jvm.MethodName) method_10_code (4 : Nat) (Option.some Jvm.ClassFile.FieldType.int) [((0 : Nat), (9 : Nat), (12 : Nat), (19 : Nat)), ((0 : Nat), (9 : Nat), (15 : Nat), (13 : Nat))]) ∈ lw_all := lw_g (lw_at lw_m4 44 rfl) rfl
theorem q805 : (Jvm.Cond.methodLink "BinderyDeskLaw" (41 : Nat) ({ cls := "BinderyDesk", name := "sheets", desc := "(I)I" } : Jvm.MethodName)) ∈ lw_all := lw_g (lw_at lw_m4 45 rfl) rfl
theorem q815 : (Jvm.Cond.methodLink "BinderyDeskLaw" (138 : Nat) ({ cls := "BinderyDeskLaw", name := "pageAt", desc := "(LBinderyDesk;III[J)I" } : Jvm.MethodName)) ∈ lw_all := lw_g (lw_at lw_m4 55 rfl) rfl
theorem q816 : (Jvm.Cond.static ({ cls := "BinderyDeskLaw", name := "pageAt", desc := "(LBinderyDesk;III[J)I" } : Jvm.MethodName)) ∈ lw_all := lw_g (lw_at lw_m4 56 rfl) rfl
theorem q817 : (Jvm.Cond.codeWith ({ cls := "BinderyDeskLaw", name := "pageAt", desc := "(LBinderyDesk;III[J)I" } : Jvm.MethodName) method_11_code (6 : Nat) (Option.some Jvm.ClassFile.FieldType.int) [((0 : Nat), (12 : Nat), (15 : Nat), (19 : Nat)), ((0 : Nat), (12 : Nat), (19 : Nat), (13 : Nat)), ((0 : Nat), (12 : Nat), (23 : Nat), (48 : Nat))]) ∈ lw_all := lw_g (lw_at lw_m4 57 rfl) rfl
theorem q818 : (Jvm.Cond.classLink "BinderyDeskLaw" (48 : Nat) "java/util/NoSuchElementException") ∈ lw_all := lw_g (lw_at lw_m4 58 rfl) rfl
theorem q819 : (Jvm.Cond.methodLink "BinderyDeskLaw" (44 : Nat) ({ cls := "BinderyDesk", name := "pageAt", desc := "(III)I" } : Jvm.MethodName)) ∈ lw_all := lw_g (lw_at lw_m4 59 rfl) rfl
theorem q833 : (Jvm.Cond.methodLink "BinderyDeskLaw" (142 : Nat) ({ cls := "BinderyDeskLaw", name := "sheetOf", desc := "(LBinderyDesk;II[J)I" } : Jvm.MethodName)) ∈ lw_all := lw_g (lw_at lw_m4 73 rfl) rfl
theorem q834 : (Jvm.Cond.static ({ cls := "BinderyDeskLaw", name := "sheetOf", desc := "(LBinderyDesk;II[J)I" } : Jvm.MethodName)) ∈ lw_all := lw_g (lw_at lw_m4 74 rfl) rfl
theorem q835 : (Jvm.Cond.codeWith ({ cls := "BinderyDeskLaw", name := "sheetOf", desc := "(LBinderyDesk;II[J)I" } : Jvm.MethodName) method_12_code (5 : Nat) (Option.some Jvm.ClassFile.FieldType.int) [((0 : Nat), (10 : Nat), (13 : Nat), (19 : Nat)), ((0 : Nat), (10 : Nat), (17 : Nat), (13 : Nat)), ((0 : Nat), (10 : Nat), (21 : Nat), (48 : Nat))]) ∈ lw_all := lw_g (lw_at lw_m4 75 rfl) rfl
theorem q836 : (Jvm.Cond.methodLink "BinderyDeskLaw" (50 : Nat) ({ cls := "BinderyDesk", name := "sheetOf", desc := "(II)I" } : Jvm.MethodName)) ∈ lw_all := lw_g (lw_at lw_m4 76 rfl) rfl
theorem q840 : (Jvm.Cond.methodLink "BinderyDeskLaw" (145 : Nat) ({ cls := "BinderyDeskLaw", name := "print", desc := "(LBinderyDesk;III[J)I" } : Jvm.MethodName)) ∈ lw_all := lw_g (lw_at lw_m4 80 rfl) rfl
theorem q841 : (Jvm.Cond.static ({ cls := "BinderyDeskLaw", name := "print", desc := "(LBinderyDesk;III[J)I" } : Jvm.MethodName)) ∈ lw_all := lw_g (lw_at lw_m4 81 rfl) rfl
theorem q842 : (Jvm.Cond.codeWith ({ cls := "BinderyDeskLaw", name := "print", desc := "(LBinderyDesk;III[J)I" } : Jvm.MethodName) method_13_code (6 : Nat) (Option.some Jvm.ClassFile.FieldType.int) [((0 : Nat), (12 : Nat), (15 : Nat), (19 : Nat)), ((0 : Nat), (12 : Nat), (19 : Nat), (13 : Nat)), ((0 : Nat), (12 : Nat), (23 : Nat), (48 : Nat)), ((0 : Nat), (12 : Nat), (27 : Nat), (32 : Nat)), ((0 : Nat), (12 : Nat), (31 : Nat), (56 : Nat))]) ∈ lw_all := lw_g (lw_at lw_m4 82 rfl) rfl
theorem q843 : (Jvm.Cond.classLink "BinderyDeskLaw" (56 : Nat) "java/lang/UnsupportedOperationException") ∈ lw_all := lw_g (lw_at lw_m4 83 rfl) rfl
theorem q844 : (Jvm.Cond.methodLink "BinderyDeskLaw" (53 : Nat) ({ cls := "BinderyDesk", name := "print", desc := "(III)I" } : Jvm.MethodName)) ∈ lw_all := lw_g (lw_at lw_m4 84 rfl) rfl
theorem q1070 : (Jvm.Cond.methodLink "BinderyDeskLaw" (148 : Nat) ({ cls := "BinderyDeskLaw", name := "makeready", desc := "(LBinderyDesk;II[J)I" } : Jvm.MethodName)) ∈ lw_all := lw_g (lw_at lw_m5 70 rfl) rfl
theorem q1071 : (Jvm.Cond.static ({ cls := "BinderyDeskLaw", name := "makeready", desc := "(LBinderyDesk;II[J)I" } : Jvm.MethodName)) ∈ lw_all := lw_g (lw_at lw_m5 71 rfl) rfl
theorem q1072 : (Jvm.Cond.codeWith ({ cls := "BinderyDeskLaw", name := "makeready", desc := "(LBinderyDesk;II[J)I" } : Jvm.MethodName) method_14_code (5 : Nat) (Option.some Jvm.ClassFile.FieldType.int) [((0 : Nat), (10 : Nat), (13 : Nat), (19 : Nat)), ((0 : Nat), (10 : Nat), (17 : Nat), (13 : Nat)), ((0 : Nat), (10 : Nat), (21 : Nat), (48 : Nat))]) ∈ lw_all := lw_g (lw_at lw_m5 72 rfl) rfl
theorem q1073 : (Jvm.Cond.methodLink "BinderyDeskLaw" (58 : Nat) ({ cls := "BinderyDesk", name := "makeready", desc := "(II)I" } : Jvm.MethodName)) ∈ lw_all := lw_g (lw_at lw_m5 73 rfl) rfl
theorem q1077 : (Jvm.Cond.methodLink "BinderyDeskLaw" (151 : Nat) ({ cls := "BinderyDeskLaw", name := "leastMakeready", desc := "(LBinderyDesk;I[J)I" } : Jvm.MethodName)) ∈ lw_all := lw_g (lw_at lw_m5 77 rfl) rfl
theorem q1078 : (Jvm.Cond.static ({ cls := "BinderyDeskLaw", name := "leastMakeready", desc := "(LBinderyDesk;I[J)I" } : Jvm.MethodName)) ∈ lw_all := lw_g (lw_at lw_m5 78 rfl) rfl
theorem q1079 : (Jvm.Cond.codeWith ({ cls := "BinderyDeskLaw", name := "leastMakeready", desc := "(LBinderyDesk;I[J)I" } : Jvm.MethodName) method_15_code (4 : Nat) (Option.some Jvm.ClassFile.FieldType.int) [((0 : Nat), (9 : Nat), (12 : Nat), (19 : Nat)), ((0 : Nat), (9 : Nat), (15 : Nat), (13 : Nat))]) ∈ lw_all := lw_g (lw_at lw_m5 79 rfl) rfl
theorem q1080 : (Jvm.Cond.methodLink "BinderyDeskLaw" (61 : Nat) ({ cls := "BinderyDesk", name := "leastMakeready", desc := "(I)I" } : Jvm.MethodName)) ∈ lw_all := lw_g (lw_at lw_m5 80 rfl) rfl
theorem q1094 : (Jvm.Cond.methodLink "BinderyDeskLaw" (154 : Nat) ({ cls := "BinderyDeskLaw", name := "leastByTrying", desc := "(LBinderyDesk;I[J)I" } : Jvm.MethodName)) ∈ lw_all := lw_g (lw_at lw_m5 94 rfl) rfl
theorem q1095 : (Jvm.Cond.static ({ cls := "BinderyDeskLaw", name := "leastByTrying", desc := "(LBinderyDesk;I[J)I" } : Jvm.MethodName)) ∈ lw_all := lw_g (lw_at lw_m5 95 rfl) rfl
theorem q1096 : (Jvm.Cond.codeWith ({ cls := "BinderyDeskLaw", name := "leastByTrying", desc := "(LBinderyDesk;I[J)I" } : Jvm.MethodName) method_16_code (4 : Nat) (Option.some Jvm.ClassFile.FieldType.int) [((0 : Nat), (9 : Nat), (12 : Nat), (19 : Nat)), ((0 : Nat), (9 : Nat), (15 : Nat), (13 : Nat)), ((0 : Nat), (9 : Nat), (18 : Nat), (56 : Nat))]) ∈ lw_all := lw_g (lw_at lw_m5 96 rfl) rfl
theorem q1097 : (Jvm.Cond.methodLink "BinderyDeskLaw" (64 : Nat) ({ cls := "BinderyDesk", name := "leastByTrying", desc := "(I)I" } : Jvm.MethodName)) ∈ lw_all := lw_g (lw_at lw_m5 97 rfl) rfl
theorem q1105 : (Jvm.Cond.methodLink "BinderyDeskLaw" (157 : Nat) ({ cls := "BinderyDeskLaw", name := "stock", desc := "(LBinderyDesk;II[J)I" } : Jvm.MethodName)) ∈ lw_all := lw_g (lw_at lw_m5 105 rfl) rfl
theorem q1106 : (Jvm.Cond.static ({ cls := "BinderyDeskLaw", name := "stock", desc := "(LBinderyDesk;II[J)I" } : Jvm.MethodName)) ∈ lw_all := lw_g (lw_at lw_m5 106 rfl) rfl
theorem q1107 : (Jvm.Cond.codeWith ({ cls := "BinderyDeskLaw", name := "stock", desc := "(LBinderyDesk;II[J)I" } : Jvm.MethodName) method_17_code (5 : Nat) (Option.some Jvm.ClassFile.FieldType.int) [((0 : Nat), (10 : Nat), (13 : Nat), (19 : Nat)), ((0 : Nat), (10 : Nat), (17 : Nat), (13 : Nat)), ((0 : Nat), (10 : Nat), (21 : Nat), (48 : Nat))]) ∈ lw_all := lw_g (lw_at lw_m5 107 rfl) rfl
theorem q1108 : (Jvm.Cond.methodLink "BinderyDeskLaw" (67 : Nat) ({ cls := "BinderyDesk", name := "stock", desc := "(II)I" } : Jvm.MethodName)) ∈ lw_all := lw_g (lw_at lw_m5 108 rfl) rfl
theorem q1112 : (Jvm.Cond.methodLink "BinderyDeskLaw" (164 : Nat) ({ cls := "BinderyDeskLaw", name := "platesNeeded", desc := "(LBinderyDesk;I[J)I" } : Jvm.MethodName)) ∈ lw_all := lw_g (lw_at lw_m5 112 rfl) rfl
theorem q1113 : (Jvm.Cond.static ({ cls := "BinderyDeskLaw", name := "platesNeeded", desc := "(LBinderyDesk;I[J)I" } : Jvm.MethodName)) ∈ lw_all := lw_g (lw_at lw_m5 113 rfl) rfl
theorem q1114 : (Jvm.Cond.codeWith ({ cls := "BinderyDeskLaw", name := "platesNeeded", desc := "(LBinderyDesk;I[J)I" } : Jvm.MethodName) method_18_code (4 : Nat) (Option.some Jvm.ClassFile.FieldType.int) [((0 : Nat), (9 : Nat), (12 : Nat), (19 : Nat)), ((0 : Nat), (9 : Nat), (15 : Nat), (13 : Nat))]) ∈ lw_all := lw_g (lw_at lw_m5 114 rfl) rfl
theorem q1115 : (Jvm.Cond.methodLink "BinderyDeskLaw" (70 : Nat) ({ cls := "BinderyDesk", name := "platesNeeded", desc := "(I)I" } : Jvm.MethodName)) ∈ lw_all := lw_g (lw_at lw_m5 115 rfl) rfl
theorem q1397 : (Jvm.Cond.methodLink "BinderyDeskLaw" (167 : Nat) ({ cls := "BinderyDeskLaw", name := "bind", desc := "(LBinderyDesk;II[J)I" } : Jvm.MethodName)) ∈ lw_all := lw_g (lw_at lw_m6 157 rfl) rfl
theorem q1398 : (Jvm.Cond.static ({ cls := "BinderyDeskLaw", name := "bind", desc := "(LBinderyDesk;II[J)I" } : Jvm.MethodName)) ∈ lw_all := lw_g (lw_at lw_m6 158 rfl) rfl
theorem q1399 : (Jvm.Cond.codeWith ({ cls := "BinderyDeskLaw", name := "bind", desc := "(LBinderyDesk;II[J)I" } : Jvm.MethodName) method_19_code (5 : Nat) (Option.some Jvm.ClassFile.FieldType.int) [((0 : Nat), (10 : Nat), (13 : Nat), (19 : Nat)), ((0 : Nat), (10 : Nat), (17 : Nat), (32 : Nat)), ((0 : Nat), (10 : Nat), (21 : Nat), (13 : Nat)), ((0 : Nat), (10 : Nat), (25 : Nat), (56 : Nat))]) ∈ lw_all := lw_g (lw_at lw_m6 159 rfl) rfl
theorem q1400 : (Jvm.Cond.methodLink "BinderyDeskLaw" (73 : Nat) ({ cls := "BinderyDesk", name := "bind", desc := "(II)I" } : Jvm.MethodName)) ∈ lw_all := lw_g (lw_at lw_m6 160 rfl) rfl
theorem q1475 : (Jvm.Cond.methodLink "BinderyDeskLaw" (170 : Nat) ({ cls := "BinderyDeskLaw", name := "lacks", desc := "(LBinderyDesk;II[J)I" } : Jvm.MethodName)) ∈ lw_all := lw_g (lw_at lw_m6 235 rfl) rfl
theorem q1476 : (Jvm.Cond.static ({ cls := "BinderyDeskLaw", name := "lacks", desc := "(LBinderyDesk;II[J)I" } : Jvm.MethodName)) ∈ lw_all := lw_g (lw_at lw_m6 236 rfl) rfl
theorem q1477 : (Jvm.Cond.codeWith ({ cls := "BinderyDeskLaw", name := "lacks", desc := "(LBinderyDesk;II[J)I" } : Jvm.MethodName) method_20_code (5 : Nat) (Option.some Jvm.ClassFile.FieldType.int) [((0 : Nat), (10 : Nat), (13 : Nat), (19 : Nat)), ((0 : Nat), (10 : Nat), (17 : Nat), (32 : Nat)), ((0 : Nat), (10 : Nat), (21 : Nat), (13 : Nat))]) ∈ lw_all := lw_g (lw_at lw_m6 237 rfl) rfl
theorem q1478 : (Jvm.Cond.methodLink "BinderyDeskLaw" (76 : Nat) ({ cls := "BinderyDesk", name := "lacks", desc := "(II)I" } : Jvm.MethodName)) ∈ lw_all := lw_g (lw_at lw_m6 238 rfl) rfl
theorem q1482 : (Jvm.Cond.methodLink "BinderyDeskLaw" (177 : Nat) ({ cls := "BinderyDeskLaw", name := "copies", desc := "(LBinderyDesk;I[J)I" } : Jvm.MethodName)) ∈ lw_all := lw_g (lw_at lw_m7 2 rfl) rfl
theorem q1483 : (Jvm.Cond.static ({ cls := "BinderyDeskLaw", name := "copies", desc := "(LBinderyDesk;I[J)I" } : Jvm.MethodName)) ∈ lw_all := lw_g (lw_at lw_m7 3 rfl) rfl
theorem q1484 : (Jvm.Cond.codeWith ({ cls := "BinderyDeskLaw", name := "copies", desc := "(LBinderyDesk;I[J)I" } : Jvm.MethodName) method_21_code (4 : Nat) (Option.some Jvm.ClassFile.FieldType.int) [((0 : Nat), (9 : Nat), (12 : Nat), (19 : Nat))]) ∈ lw_all := lw_g (lw_at lw_m7 4 rfl) rfl
theorem q1485 : (Jvm.Cond.methodLink "BinderyDeskLaw" (79 : Nat) ({ cls := "BinderyDesk", name := "copies", desc := "(I)I" } : Jvm.MethodName)) ∈ lw_all := lw_g (lw_at lw_m7 5 rfl) rfl
theorem q1493 : (Jvm.Cond.methodLink "BinderyDeskLaw" (180 : Nat) ({ cls := "BinderyDeskLaw", name := "stateIn", desc := "(LBinderyDesk;II[J)I" } : Jvm.MethodName)) ∈ lw_all := lw_g (lw_at lw_m7 13 rfl) rfl
theorem q1494 : (Jvm.Cond.static ({ cls := "BinderyDeskLaw", name := "stateIn", desc := "(LBinderyDesk;II[J)I" } : Jvm.MethodName)) ∈ lw_all := lw_g (lw_at lw_m7 14 rfl) rfl
theorem q1495 : (Jvm.Cond.codeWith ({ cls := "BinderyDeskLaw", name := "stateIn", desc := "(LBinderyDesk;II[J)I" } : Jvm.MethodName) method_22_code (5 : Nat) (Option.some Jvm.ClassFile.FieldType.int) [((0 : Nat), (10 : Nat), (13 : Nat), (19 : Nat)), ((0 : Nat), (10 : Nat), (17 : Nat), (48 : Nat))]) ∈ lw_all := lw_g (lw_at lw_m7 15 rfl) rfl
theorem q1496 : (Jvm.Cond.methodLink "BinderyDeskLaw" (82 : Nat) ({ cls := "BinderyDesk", name := "stateIn", desc := "(II)I" } : Jvm.MethodName)) ∈ lw_all := lw_g (lw_at lw_m7 16 rfl) rfl
theorem q1504 : (Jvm.Cond.methodLink "BinderyDeskLaw" (183 : Nat) ({ cls := "BinderyDeskLaw", name := "stateByReplay", desc := "(LBinderyDesk;II[J)I" } : Jvm.MethodName)) ∈ lw_all := lw_g (lw_at lw_m7 24 rfl) rfl
theorem q1505 : (Jvm.Cond.static ({ cls := "BinderyDeskLaw", name := "stateByReplay", desc := "(LBinderyDesk;II[J)I" } : Jvm.MethodName)) ∈ lw_all := lw_g (lw_at lw_m7 25 rfl) rfl
theorem q1506 : (Jvm.Cond.codeWith ({ cls := "BinderyDeskLaw", name := "stateByReplay", desc := "(LBinderyDesk;II[J)I" } : Jvm.MethodName) method_23_code (5 : Nat) (Option.some Jvm.ClassFile.FieldType.int) [((0 : Nat), (10 : Nat), (13 : Nat), (19 : Nat)), ((0 : Nat), (10 : Nat), (17 : Nat), (48 : Nat))]) ∈ lw_all := lw_g (lw_at lw_m7 26 rfl) rfl
theorem q1507 : (Jvm.Cond.methodLink "BinderyDeskLaw" (85 : Nat) ({ cls := "BinderyDesk", name := "stateByReplay", desc := "(II)I" } : Jvm.MethodName)) ∈ lw_all := lw_g (lw_at lw_m7 27 rfl) rfl
theorem q1512 : (Jvm.Cond.methodLink "BinderyDeskLaw" (186 : Nat) ({ cls := "BinderyDeskLaw", name := "outdated", desc := "(LBinderyDesk;I[J)I" } : Jvm.MethodName)) ∈ lw_all := lw_g (lw_at lw_m7 32 rfl) rfl
theorem q1513 : (Jvm.Cond.static ({ cls := "BinderyDeskLaw", name := "outdated", desc := "(LBinderyDesk;I[J)I" } : Jvm.MethodName)) ∈ lw_all := lw_g (lw_at lw_m7 33 rfl) rfl
theorem q1514 : (Jvm.Cond.codeWith ({ cls := "BinderyDeskLaw", name := "outdated", desc := "(LBinderyDesk;I[J)I" } : Jvm.MethodName) method_24_code (4 : Nat) (Option.some Jvm.ClassFile.FieldType.int) [((0 : Nat), (9 : Nat), (12 : Nat), (19 : Nat))]) ∈ lw_all := lw_g (lw_at lw_m7 34 rfl) rfl
theorem q1515 : (Jvm.Cond.methodLink "BinderyDeskLaw" (88 : Nat) ({ cls := "BinderyDesk", name := "outdated", desc := "(I)I" } : Jvm.MethodName)) ∈ lw_all := lw_g (lw_at lw_m7 35 rfl) rfl
theorem q1530 : (Jvm.Cond.methodLink "BinderyDeskLaw" (194 : Nat) ({ cls := "BinderyDeskLaw", name := "wasteShare", desc := "(LBinderyDesk;[D)I" } : Jvm.MethodName)) ∈ lw_all := lw_g (lw_at lw_m7 50 rfl) rfl
theorem q1531 : (Jvm.Cond.static ({ cls := "BinderyDeskLaw", name := "wasteShare", desc := "(LBinderyDesk;[D)I" } : Jvm.MethodName)) ∈ lw_all := lw_g (lw_at lw_m7 51 rfl) rfl
theorem q1532 : (Jvm.Cond.codeWith ({ cls := "BinderyDeskLaw", name := "wasteShare", desc := "(LBinderyDesk;[D)I" } : Jvm.MethodName) method_25_code (3 : Nat) (Option.some Jvm.ClassFile.FieldType.int) [((0 : Nat), (8 : Nat), (11 : Nat), (95 : Nat))]) ∈ lw_all := lw_g (lw_at lw_m7 52 rfl) rfl
theorem q1533 : (Jvm.Cond.classLink "BinderyDeskLaw" (95 : Nat) "java/lang/ArithmeticException") ∈ lw_all := lw_g (lw_at lw_m7 53 rfl) rfl
theorem q1547 : (Jvm.Cond.methodLink "BinderyDeskLaw" (91 : Nat) ({ cls := "BinderyDesk", name := "wasteShare", desc := "()F" } : Jvm.MethodName)) ∈ lw_all := lw_g (lw_at lw_m7 67 rfl) rfl
theorem q1556 : (Jvm.Cond.methodLink "BinderyDeskLaw" (198 : Nat) ({ cls := "BinderyDeskLaw", name := "meanMakeready", desc := "(LBinderyDesk;[D)I" } : Jvm.MethodName)) ∈ lw_all := lw_g (lw_at lw_m7 76 rfl) rfl
theorem q1557 : (Jvm.Cond.static ({ cls := "BinderyDeskLaw", name := "meanMakeready", desc := "(LBinderyDesk;[D)I" } : Jvm.MethodName)) ∈ lw_all := lw_g (lw_at lw_m7 77 rfl) rfl
theorem q1558 : (Jvm.Cond.codeWith ({ cls := "BinderyDeskLaw", name := "meanMakeready", desc := "(LBinderyDesk;[D)I" } : Jvm.MethodName) method_26_code (3 : Nat) (Option.some Jvm.ClassFile.FieldType.int) [((0 : Nat), (7 : Nat), (10 : Nat), (95 : Nat))]) ∈ lw_all := lw_g (lw_at lw_m7 78 rfl) rfl
theorem q1559 : (Jvm.Cond.methodLink "BinderyDeskLaw" (97 : Nat) ({ cls := "BinderyDesk", name := "meanMakeready", desc := "()D" } : Jvm.MethodName)) ∈ lw_all := lw_g (lw_at lw_m7 79 rfl) rfl
theorem q1563 : (Jvm.Cond.classLink "BinderyDeskLaw" (102 : Nat) "BinderyDeskModel") ∈ lw_all := lw_g (lw_at lw_m7 83 rfl) rfl
theorem q1565 : (Jvm.Cond.methodLink "BinderyDeskLaw" (104 : Nat) ({ cls := "BinderyDeskModel", name := "<init>", desc := "()V" } : Jvm.MethodName)) ∈ lw_all := lw_g (lw_at lw_m7 85 rfl) rfl
theorem q1649 : (Jvm.Cond.methodLink "BinderyDeskLaw" (111 : Nat) ({ cls := "BinderyDeskModel", name := "thrown", desc := "()I" } : Jvm.MethodName)) ∈ lw_all := lw_g (lw_at lw_m7 169 rfl) rfl
theorem q1653 : (Jvm.Cond.methodLink "BinderyDeskLaw" (110 : Nat) ({ cls := "BinderyDeskModel", name := "addContent", desc := "()I" } : Jvm.MethodName)) ∈ lw_all := lw_g (lw_at lw_m7 173 rfl) rfl
theorem q1661 : (Jvm.Cond.methodLink "BinderyDeskLaw" (117 : Nat) ({ cls := "BinderyDeskModel", name := "approve", desc := "(I)Z" } : Jvm.MethodName)) ∈ lw_all := lw_g (lw_at lw_m7 181 rfl) rfl
theorem q1672 : (Jvm.Cond.methodLink "BinderyDeskLaw" (120 : Nat) ({ cls := "BinderyDeskModel", name := "correct", desc := "(I)I" } : Jvm.MethodName)) ∈ lw_all := lw_g (lw_at lw_m7 192 rfl) rfl
theorem q1704 : (Jvm.Cond.methodLink "BinderyDeskLaw" (123 : Nat) ({ cls := "BinderyDeskModel", name := "state", desc := "(I)I" } : Jvm.MethodName)) ∈ lw_all := lw_g (lw_at lw_m7 224 rfl) rfl
theorem q1708 : (Jvm.Cond.methodLink "BinderyDeskLaw" (127 : Nat) ({ cls := "BinderyDeskModel", name := "addJob", desc := "(C)I" } : Jvm.MethodName)) ∈ lw_all := lw_g (lw_at lw_m7 228 rfl) rfl
theorem q1712 : (Jvm.Cond.methodLink "BinderyDeskLaw" (131 : Nat) ({ cls := "BinderyDeskModel", name := "addPage", desc := "(II)I" } : Jvm.MethodName)) ∈ lw_all := lw_g (lw_at lw_m7 232 rfl) rfl
theorem q1716 : (Jvm.Cond.methodLink "BinderyDeskLaw" (134 : Nat) ({ cls := "BinderyDeskModel", name := "pages", desc := "(I)I" } : Jvm.MethodName)) ∈ lw_all := lw_g (lw_at lw_m7 236 rfl) rfl
theorem q1720 : (Jvm.Cond.methodLink "BinderyDeskLaw" (137 : Nat) ({ cls := "BinderyDeskModel", name := "sheets", desc := "(I)I" } : Jvm.MethodName)) ∈ lw_all := lw_g (lw_at lw_m8 0 rfl) rfl
theorem q1728 : (Jvm.Cond.methodLink "BinderyDeskLaw" (141 : Nat) ({ cls := "BinderyDeskModel", name := "pageAt", desc := "(III)I" } : Jvm.MethodName)) ∈ lw_all := lw_g (lw_at lw_m8 8 rfl) rfl
theorem q1736 : (Jvm.Cond.methodLink "BinderyDeskLaw" (144 : Nat) ({ cls := "BinderyDeskModel", name := "sheetOf", desc := "(II)I" } : Jvm.MethodName)) ∈ lw_all := lw_g (lw_at lw_m8 16 rfl) rfl
theorem q1740 : (Jvm.Cond.methodLink "BinderyDeskLaw" (147 : Nat) ({ cls := "BinderyDeskModel", name := "print", desc := "(III)I" } : Jvm.MethodName)) ∈ lw_all := lw_g (lw_at lw_m8 20 rfl) rfl
theorem q1764 : (Jvm.Cond.methodLink "BinderyDeskLaw" (150 : Nat) ({ cls := "BinderyDeskModel", name := "makeready", desc := "(II)I" } : Jvm.MethodName)) ∈ lw_all := lw_g (lw_at lw_m8 44 rfl) rfl
theorem q1768 : (Jvm.Cond.methodLink "BinderyDeskLaw" (153 : Nat) ({ cls := "BinderyDeskModel", name := "leastMakeready", desc := "(I)I" } : Jvm.MethodName)) ∈ lw_all := lw_g (lw_at lw_m8 48 rfl) rfl
theorem q1781 : (Jvm.Cond.methodLink "BinderyDeskLaw" (156 : Nat) ({ cls := "BinderyDeskModel", name := "leastByTrying", desc := "(I)I" } : Jvm.MethodName)) ∈ lw_all := lw_g (lw_at lw_m8 61 rfl) rfl
theorem q1785 : (Jvm.Cond.methodLink "BinderyDeskLaw" (159 : Nat) ({ cls := "BinderyDeskModel", name := "stock", desc := "(II)I" } : Jvm.MethodName)) ∈ lw_all := lw_g (lw_at lw_m8 65 rfl) rfl
theorem q1789 : (Jvm.Cond.methodLink "BinderyDeskLaw" (163 : Nat) ({ cls := "BinderyDeskModel", name := "plates", desc := "()I" } : Jvm.MethodName)) ∈ lw_all := lw_g (lw_at lw_m8 69 rfl) rfl
theorem q1793 : (Jvm.Cond.methodLink "BinderyDeskLaw" (166 : Nat) ({ cls := "BinderyDeskModel", name := "platesNeeded", desc := "(I)I" } : Jvm.MethodName)) ∈ lw_all := lw_g (lw_at lw_m8 73 rfl) rfl
theorem q1797 : (Jvm.Cond.methodLink "BinderyDeskLaw" (169 : Nat) ({ cls := "BinderyDeskModel", name := "bind", desc := "(II)I" } : Jvm.MethodName)) ∈ lw_all := lw_g (lw_at lw_m8 77 rfl) rfl
theorem q1805 : (Jvm.Cond.methodLink "BinderyDeskLaw" (172 : Nat) ({ cls := "BinderyDeskModel", name := "lacks", desc := "(II)I" } : Jvm.MethodName)) ∈ lw_all := lw_g (lw_at lw_m8 85 rfl) rfl
theorem q1809 : (Jvm.Cond.methodLink "BinderyDeskLaw" (176 : Nat) ({ cls := "BinderyDeskModel", name := "lots", desc := "()I" } : Jvm.MethodName)) ∈ lw_all := lw_g (lw_at lw_m8 89 rfl) rfl
theorem q1813 : (Jvm.Cond.methodLink "BinderyDeskLaw" (179 : Nat) ({ cls := "BinderyDeskModel", name := "copies", desc := "(I)I" } : Jvm.MethodName)) ∈ lw_all := lw_g (lw_at lw_m8 93 rfl) rfl
theorem q1817 : (Jvm.Cond.methodLink "BinderyDeskLaw" (182 : Nat) ({ cls := "BinderyDeskModel", name := "stateIn", desc := "(II)I" } : Jvm.MethodName)) ∈ lw_all := lw_g (lw_at lw_m8 97 rfl) rfl
theorem q1821 : (Jvm.Cond.methodLink "BinderyDeskLaw" (185 : Nat) ({ cls := "BinderyDeskModel", name := "stateByReplay", desc := "(II)I" } : Jvm.MethodName)) ∈ lw_all := lw_g (lw_at lw_m8 101 rfl) rfl
theorem q1826 : (Jvm.Cond.methodLink "BinderyDeskLaw" (188 : Nat) ({ cls := "BinderyDeskModel", name := "outdated", desc := "(I)I" } : Jvm.MethodName)) ∈ lw_all := lw_g (lw_at lw_m8 106 rfl) rfl
theorem q1830 : (Jvm.Cond.methodLink "BinderyDeskLaw" (193 : Nat) ({ cls := "BinderyDeskModel", name := "waste", desc := "()J" } : Jvm.MethodName)) ∈ lw_all := lw_g (lw_at lw_m8 110 rfl) rfl
theorem q1834 : (Jvm.Cond.methodLink "BinderyDeskLaw" (197 : Nat) ({ cls := "BinderyDeskModel", name := "wasteShare", desc := "()F" } : Jvm.MethodName)) ∈ lw_all := lw_g (lw_at lw_m8 114 rfl) rfl
theorem q1838 : (Jvm.Cond.methodLink "BinderyDeskLaw" (200 : Nat) ({ cls := "BinderyDeskModel", name := "meanMakeready", desc := "()D" } : Jvm.MethodName)) ∈ lw_all := lw_g (lw_at lw_m8 118 rfl) rfl

/-! the law's own entry -/
set_option maxRecDepth 100000
abbrev cL_law : ByteArray := code
def dkwL_law_69 : List UInt8 := [167, 249, 105, 4, 172]
abbrev dktL_law_69 : List UInt8 := dkwL_law_69 ++ []
def dkwL_law_68 : List UInt8 := [25, 4, 3, 49, 151, 153, 0, 11, 24, 7, 24, 7, 151, 154, 0, 5, 3, 172, 167, 0, 3, 132, 5, 4]
abbrev dktL_law_68 : List UInt8 := dkwL_law_68 ++ dktL_law_69
def dkwL_law_67 : List UInt8 := [159, 0, 5, 3, 172, 21, 6, 154, 0, 35, 25, 4, 3, 49, 24, 7, 151, 153, 0, 25, 25, 4, 3, 49]
abbrev dktL_law_67 : List UInt8 := dkwL_law_67 ++ dktL_law_68
def dkwL_law_66 : List UInt8 := [172, 167, 0, 68, 43, 25, 4, 184, 0, 198, 54, 6, 44, 182, 0, 200, 57, 7, 44, 182, 0, 111, 21, 6]
abbrev dktL_law_66 : List UInt8 := dkwL_law_66 ++ dktL_law_67
def dkwL_law_65 : List UInt8 := [153, 0, 25, 25, 4, 3, 49, 25, 4, 3, 49, 151, 153, 0, 11, 23, 7, 23, 7, 149, 154, 0, 5, 3]
abbrev dktL_law_65 : List UInt8 := dkwL_law_65 ++ dktL_law_66
def dkwL_law_64 : List UInt8 := [182, 0, 111, 21, 6, 159, 0, 5, 3, 172, 21, 6, 154, 0, 36, 25, 4, 3, 49, 23, 7, 141, 151]
abbrev dktL_law_64 : List UInt8 := dkwL_law_64 ++ dktL_law_65
def dkwL_law_63 : List UInt8 := [182, 0, 193, 148, 153, 0, 136, 3, 172, 43, 25, 4, 184, 0, 194, 54, 6, 44, 182, 0, 197, 56, 7, 44]
abbrev dktL_law_63 : List UInt8 := dkwL_law_63 ++ dktL_law_64
def dkwL_law_62 : List UInt8 := [154, 0, 15, 45, 3, 47, 21, 7, 133, 148, 153, 0, 5, 3, 172, 167, 0, 148, 43, 182, 0, 189, 44]
abbrev dktL_law_62 : List UInt8 := dkwL_law_62 ++ dktL_law_63
def dkwL_law_61 : List UInt8 := [21, 5, 4, 96, 46, 182, 0, 188, 54, 7, 44, 182, 0, 111, 21, 6, 159, 0, 5, 3, 172, 21, 6]
abbrev dktL_law_61 : List UInt8 := dkwL_law_61 ++ dktL_law_62
def dkwL_law_60 : List UInt8 := [153, 0, 5, 3, 172, 167, 0, 204, 43, 42, 21, 5, 4, 96, 46, 45, 184, 0, 186, 54, 6, 44, 42]
abbrev dktL_law_60 : List UInt8 := dkwL_law_60 ++ dktL_law_61
def dkwL_law_59 : List UInt8 := [182, 0, 111, 21, 6, 159, 0, 5, 3, 172, 21, 6, 154, 0, 15, 45, 3, 47, 21, 7, 133, 148]
abbrev dktL_law_59 : List UInt8 := dkwL_law_59 ++ dktL_law_60
def dkwL_law_58 : List UInt8 := [184, 0, 183, 54, 6, 44, 42, 21, 5, 4, 96, 46, 42, 21, 5, 5, 96, 46, 182, 0, 185, 54, 7, 44]
abbrev dktL_law_58 : List UInt8 := dkwL_law_58 ++ dktL_law_59
def dkwL_law_57 : List UInt8 := [153, 0, 5, 3, 172, 167, 1, 16, 43, 42, 21, 5, 4, 96, 46, 42, 21, 5, 5, 96, 46, 45]
abbrev dktL_law_57 : List UInt8 := dkwL_law_57 ++ dktL_law_58
def dkwL_law_56 : List UInt8 := [182, 0, 111, 21, 6, 159, 0, 5, 3, 172, 21, 6, 154, 0, 15, 45, 3, 47, 21, 7, 133, 148]
abbrev dktL_law_56 : List UInt8 := dkwL_law_56 ++ dktL_law_57
def dkwL_law_55 : List UInt8 := [184, 0, 180, 54, 6, 44, 42, 21, 5, 4, 96, 46, 42, 21, 5, 5, 96, 46, 182, 0, 182, 54, 7, 44]
abbrev dktL_law_55 : List UInt8 := dkwL_law_55 ++ dktL_law_56
def dkwL_law_54 : List UInt8 := [148, 153, 0, 5, 3, 172, 167, 1, 84, 43, 42, 21, 5, 4, 96, 46, 42, 21, 5, 5, 96, 46, 45]
abbrev dktL_law_54 : List UInt8 := dkwL_law_54 ++ dktL_law_55
def dkwL_law_53 : List UInt8 := [54, 7, 44, 182, 0, 111, 21, 6, 159, 0, 5, 3, 172, 21, 6, 154, 0, 15, 45, 3, 47, 21, 7, 133]
abbrev dktL_law_53 : List UInt8 := dkwL_law_53 ++ dktL_law_54
def dkwL_law_52 : List UInt8 := [172, 43, 42, 21, 5, 4, 96, 46, 45, 184, 0, 177, 54, 6, 44, 42, 21, 5, 4, 96, 46, 182, 0, 179]
abbrev dktL_law_52 : List UInt8 := dkwL_law_52 ++ dktL_law_53
def dkwL_law_51 : List UInt8 := [21, 7, 133, 148, 153, 0, 5, 3, 172, 167, 1, 153, 43, 182, 0, 173, 44, 182, 0, 176, 159, 1, 142, 3]
abbrev dktL_law_51 : List UInt8 := dkwL_law_51 ++ dktL_law_52
def dkwL_law_50 : List UInt8 := [182, 0, 172, 54, 7, 44, 182, 0, 111, 21, 6, 159, 0, 5, 3, 172, 21, 6, 154, 0, 15, 45, 3, 47]
abbrev dktL_law_50 : List UInt8 := dkwL_law_50 ++ dktL_law_51
def dkwL_law_49 : List UInt8 := [5, 96, 46, 45, 184, 0, 170, 54, 6, 44, 42, 21, 5, 4, 96, 46, 42, 21, 5, 5, 96, 46]
abbrev dktL_law_49 : List UInt8 := dkwL_law_49 ++ dktL_law_50
def dkwL_law_48 : List UInt8 := [3, 47, 21, 7, 133, 148, 153, 0, 5, 3, 172, 167, 1, 221, 43, 42, 21, 5, 4, 96, 46, 42, 21, 5]
abbrev dktL_law_48 : List UInt8 := dkwL_law_48 ++ dktL_law_49
def dkwL_law_47 : List UInt8 := [96, 46, 182, 0, 169, 54, 7, 44, 182, 0, 111, 21, 6, 159, 0, 5, 3, 172, 21, 6, 154, 0, 15, 45]
abbrev dktL_law_47 : List UInt8 := dkwL_law_47 ++ dktL_law_48
def dkwL_law_46 : List UInt8 := [46, 42, 21, 5, 5, 96, 46, 45, 184, 0, 167, 54, 6, 44, 42, 21, 5, 4, 96, 46, 42, 21, 5, 5]
abbrev dktL_law_46 : List UInt8 := dkwL_law_46 ++ dktL_law_47
def dkwL_law_45 : List UInt8 := [154, 0, 15, 45, 3, 47, 21, 7, 133, 148, 153, 0, 5, 3, 172, 167, 2, 33, 43, 42, 21, 5, 4, 96]
abbrev dktL_law_45 : List UInt8 := dkwL_law_45 ++ dktL_law_46
def dkwL_law_44 : List UInt8 := [21, 5, 4, 96, 46, 182, 0, 166, 54, 7, 44, 182, 0, 111, 21, 6, 159, 0, 5, 3, 172, 21, 6]
abbrev dktL_law_44 : List UInt8 := dkwL_law_44 ++ dktL_law_45
def dkwL_law_43 : List UInt8 := [182, 0, 163, 159, 2, 91, 3, 172, 43, 42, 21, 5, 4, 96, 46, 45, 184, 0, 164, 54, 6, 44, 42]
abbrev dktL_law_43 : List UInt8 := dkwL_law_43 ++ dktL_law_44
def dkwL_law_42 : List UInt8 := [154, 0, 15, 45, 3, 47, 21, 7, 133, 148, 153, 0, 5, 3, 172, 167, 2, 102, 43, 182, 0, 160, 44]
abbrev dktL_law_42 : List UInt8 := dkwL_law_42 ++ dktL_law_43
def dkwL_law_41 : List UInt8 := [42, 21, 5, 5, 96, 46, 182, 0, 159, 54, 7, 44, 182, 0, 111, 21, 6, 159, 0, 5, 3, 172, 21, 6]
abbrev dktL_law_41 : List UInt8 := dkwL_law_41 ++ dktL_law_42
def dkwL_law_40 : List UInt8 := [21, 5, 4, 96, 46, 42, 21, 5, 5, 96, 46, 45, 184, 0, 157, 54, 6, 44, 42, 21, 5, 4, 96, 46]
abbrev dktL_law_40 : List UInt8 := dkwL_law_40 ++ dktL_law_41
def dkwL_law_39 : List UInt8 := [172, 21, 6, 154, 0, 15, 45, 3, 47, 21, 7, 133, 148, 153, 0, 5, 3, 172, 167, 2, 170, 43, 42]
abbrev dktL_law_39 : List UInt8 := dkwL_law_39 ++ dktL_law_40
def dkwL_law_38 : List UInt8 := [54, 6, 44, 42, 21, 5, 4, 96, 46, 182, 0, 156, 54, 7, 44, 182, 0, 111, 21, 6, 159, 0, 5, 3]
abbrev dktL_law_38 : List UInt8 := dkwL_law_38 ++ dktL_law_39
def dkwL_law_37 : List UInt8 := [21, 7, 133, 148, 153, 0, 5, 3, 172, 167, 2, 226, 43, 42, 21, 5, 4, 96, 46, 45, 184, 0, 154]
abbrev dktL_law_37 : List UInt8 := dkwL_law_37 ++ dktL_law_38
def dkwL_law_36 : List UInt8 := [182, 0, 153, 54, 7, 44, 182, 0, 111, 21, 6, 159, 0, 5, 3, 172, 21, 6, 154, 0, 15, 45, 3, 47]
abbrev dktL_law_36 : List UInt8 := dkwL_law_36 ++ dktL_law_37
def dkwL_law_35 : List UInt8 := [167, 3, 26, 43, 42, 21, 5, 4, 96, 46, 45, 184, 0, 151, 54, 6, 44, 42, 21, 5, 4, 96, 46]
abbrev dktL_law_35 : List UInt8 := dkwL_law_35 ++ dktL_law_36
def dkwL_law_34 : List UInt8 := [159, 0, 5, 3, 172, 21, 6, 154, 0, 15, 45, 3, 47, 21, 7, 133, 148, 153, 0, 5, 3, 172]
abbrev dktL_law_34 : List UInt8 := dkwL_law_34 ++ dktL_law_35
def dkwL_law_33 : List UInt8 := [21, 5, 4, 96, 46, 42, 21, 5, 5, 96, 46, 182, 0, 150, 54, 7, 44, 182, 0, 111, 21, 6]
abbrev dktL_law_33 : List UInt8 := dkwL_law_33 ++ dktL_law_34
def dkwL_law_32 : List UInt8 := [167, 3, 94, 43, 42, 21, 5, 4, 96, 46, 42, 21, 5, 5, 96, 46, 45, 184, 0, 148, 54, 6, 44, 42]
abbrev dktL_law_32 : List UInt8 := dkwL_law_32 ++ dktL_law_33
def dkwL_law_31 : List UInt8 := [21, 6, 159, 0, 5, 3, 172, 21, 6, 154, 0, 15, 45, 3, 47, 21, 7, 133, 148, 153, 0, 5, 3, 172]
abbrev dktL_law_31 : List UInt8 := dkwL_law_31 ++ dktL_law_32
def dkwL_law_30 : List UInt8 := [96, 46, 42, 21, 5, 5, 96, 46, 42, 21, 5, 6, 96, 46, 182, 0, 147, 54, 7, 44, 182, 0, 111]
abbrev dktL_law_30 : List UInt8 := dkwL_law_30 ++ dktL_law_31
def dkwL_law_29 : List UInt8 := [46, 42, 21, 5, 5, 96, 46, 42, 21, 5, 6, 96, 46, 45, 184, 0, 145, 54, 6, 44, 42, 21, 5, 4]
abbrev dktL_law_29 : List UInt8 := dkwL_law_29 ++ dktL_law_30
def dkwL_law_28 : List UInt8 := [154, 0, 15, 45, 3, 47, 21, 7, 133, 148, 153, 0, 5, 3, 172, 167, 3, 174, 43, 42, 21, 5, 4, 96]
abbrev dktL_law_28 : List UInt8 := dkwL_law_28 ++ dktL_law_29
def dkwL_law_27 : List UInt8 := [21, 5, 5, 96, 46, 182, 0, 144, 54, 7, 44, 182, 0, 111, 21, 6, 159, 0, 5, 3, 172, 21, 6]
abbrev dktL_law_27 : List UInt8 := dkwL_law_27 ++ dktL_law_28
def dkwL_law_26 : List UInt8 := [4, 96, 46, 42, 21, 5, 5, 96, 46, 45, 184, 0, 142, 54, 6, 44, 42, 21, 5, 4, 96, 46, 42]
abbrev dktL_law_26 : List UInt8 := dkwL_law_26 ++ dktL_law_27
def dkwL_law_25 : List UInt8 := [21, 6, 154, 0, 15, 45, 3, 47, 21, 7, 133, 148, 153, 0, 5, 3, 172, 167, 3, 242, 43, 42, 21, 5]
abbrev dktL_law_25 : List UInt8 := dkwL_law_25 ++ dktL_law_26
def dkwL_law_24 : List UInt8 := [96, 46, 42, 21, 5, 6, 96, 46, 182, 0, 141, 54, 7, 44, 182, 0, 111, 21, 6, 159, 0, 5, 3, 172]
abbrev dktL_law_24 : List UInt8 := dkwL_law_24 ++ dktL_law_25
def dkwL_law_23 : List UInt8 := [46, 42, 21, 5, 6, 96, 46, 45, 184, 0, 138, 54, 6, 44, 42, 21, 5, 4, 96, 46, 42, 21, 5, 5]
abbrev dktL_law_23 : List UInt8 := dkwL_law_23 ++ dktL_law_24
def dkwL_law_22 : List UInt8 := [21, 7, 133, 148, 153, 0, 5, 3, 172, 167, 4, 66, 43, 42, 21, 5, 4, 96, 46, 42, 21, 5, 5, 96]
abbrev dktL_law_22 : List UInt8 := dkwL_law_22 ++ dktL_law_23
def dkwL_law_21 : List UInt8 := [182, 0, 137, 54, 7, 44, 182, 0, 111, 21, 6, 159, 0, 5, 3, 172, 21, 6, 154, 0, 15, 45, 3, 47]
abbrev dktL_law_21 : List UInt8 := dkwL_law_21 ++ dktL_law_22
def dkwL_law_20 : List UInt8 := [167, 4, 122, 43, 42, 21, 5, 4, 96, 46, 45, 184, 0, 135, 54, 6, 44, 42, 21, 5, 4, 96, 46]
abbrev dktL_law_20 : List UInt8 := dkwL_law_20 ++ dktL_law_21
def dkwL_law_19 : List UInt8 := [159, 0, 5, 3, 172, 21, 6, 154, 0, 15, 45, 3, 47, 21, 7, 133, 148, 153, 0, 5, 3, 172]
abbrev dktL_law_19 : List UInt8 := dkwL_law_19 ++ dktL_law_20
def dkwL_law_18 : List UInt8 := [184, 0, 132, 54, 6, 44, 42, 21, 5, 4, 96, 46, 182, 0, 134, 54, 7, 44, 182, 0, 111, 21, 6]
abbrev dktL_law_18 : List UInt8 := dkwL_law_18 ++ dktL_law_19
def dkwL_law_17 : List UInt8 := [3, 47, 21, 7, 133, 148, 153, 0, 5, 3, 172, 167, 4, 178, 43, 42, 21, 5, 4, 96, 46, 45]
abbrev dktL_law_17 : List UInt8 := dkwL_law_17 ++ dktL_law_18
def dkwL_law_16 : List UInt8 := [96, 46, 182, 0, 131, 54, 7, 44, 182, 0, 111, 21, 6, 159, 0, 5, 3, 172, 21, 6, 154, 0, 15, 45]
abbrev dktL_law_16 : List UInt8 := dkwL_law_16 ++ dktL_law_17
def dkwL_law_15 : List UInt8 := [46, 42, 21, 5, 5, 96, 46, 45, 184, 0, 128, 54, 6, 44, 42, 21, 5, 4, 96, 46, 42, 21, 5, 5]
abbrev dktL_law_15 : List UInt8 := dkwL_law_15 ++ dktL_law_16
def dkwL_law_14 : List UInt8 := [154, 0, 15, 45, 3, 47, 21, 7, 133, 148, 153, 0, 5, 3, 172, 167, 4, 246, 43, 42, 21, 5, 4, 96]
abbrev dktL_law_14 : List UInt8 := dkwL_law_14 ++ dktL_law_15
def dkwL_law_13 : List UInt8 := [21, 5, 4, 96, 46, 146, 182, 0, 127, 54, 7, 44, 182, 0, 111, 21, 6, 159, 0, 5, 3, 172, 21, 6]
abbrev dktL_law_13 : List UInt8 := dkwL_law_13 ++ dktL_law_14
def dkwL_law_12 : List UInt8 := [153, 0, 5, 3, 172, 167, 5, 48, 43, 42, 21, 5, 4, 96, 46, 146, 45, 184, 0, 124, 54, 6, 44, 42]
abbrev dktL_law_12 : List UInt8 := dkwL_law_12 ++ dktL_law_13
def dkwL_law_11 : List UInt8 := [182, 0, 111, 21, 6, 159, 0, 5, 3, 172, 21, 6, 154, 0, 15, 45, 3, 47, 21, 7, 133, 148]
abbrev dktL_law_11 : List UInt8 := dkwL_law_11 ++ dktL_law_12
def dkwL_law_10 : List UInt8 := [21, 5, 4, 96, 46, 45, 184, 0, 121, 54, 6, 44, 42, 21, 5, 4, 96, 46, 182, 0, 123, 54, 7, 44]
abbrev dktL_law_10 : List UInt8 := dkwL_law_10 ++ dktL_law_11
def dkwL_law_9 : List UInt8 := [172, 21, 6, 154, 0, 15, 45, 3, 47, 21, 7, 133, 148, 153, 0, 5, 3, 172, 167, 5, 104, 43, 42]
abbrev dktL_law_9 : List UInt8 := dkwL_law_9 ++ dktL_law_10
def dkwL_law_8 : List UInt8 := [54, 6, 44, 42, 21, 5, 4, 96, 46, 182, 0, 120, 54, 7, 44, 182, 0, 111, 21, 6, 159, 0, 5, 3]
abbrev dktL_law_8 : List UInt8 := dkwL_law_8 ++ dktL_law_9
def dkwL_law_7 : List UInt8 := [167, 0, 4, 9, 148, 153, 0, 5, 3, 172, 167, 5, 160, 43, 42, 21, 5, 4, 96, 46, 45, 184, 0, 118]
abbrev dktL_law_7 : List UInt8 := dkwL_law_7 ++ dktL_law_8
def dkwL_law_6 : List UInt8 := [182, 0, 111, 21, 6, 159, 0, 5, 3, 172, 21, 6, 154, 0, 22, 45, 3, 47, 21, 7, 153, 0, 7, 10]
abbrev dktL_law_6 : List UInt8 := dkwL_law_6 ++ dktL_law_7
def dkwL_law_5 : List UInt8 := [4, 96, 46, 45, 184, 0, 114, 54, 6, 44, 42, 21, 5, 4, 96, 46, 182, 0, 117, 54, 7, 44]
abbrev dktL_law_5 : List UInt8 := dkwL_law_5 ++ dktL_law_6
def dkwL_law_4 : List UInt8 := [21, 6, 154, 0, 15, 45, 3, 47, 21, 7, 133, 148, 153, 0, 5, 3, 172, 167, 5, 223, 43, 42, 21, 5]
abbrev dktL_law_4 : List UInt8 := dkwL_law_4 ++ dktL_law_5
def dkwL_law_3 : List UInt8 := [43, 45, 184, 0, 105, 54, 6, 44, 182, 0, 110, 54, 7, 44, 182, 0, 111, 21, 6, 159, 0, 5, 3, 172]
abbrev dktL_law_3 : List UInt8 := dkwL_law_3 ++ dktL_law_4
def dkwL_law_2 : List UInt8 := [170, 0, 0, 0, 0, 0, 6, 132, 0, 0, 0, 0, 0, 0, 0, 26, 0, 0, 0, 124, 0, 0, 0, 168, 0, 0, 0, 231, 0, 0, 1, 31, 0, 0, 1, 87, 0, 0, 1, 145, 0, 0, 1, 213, 0, 0, 2, 13, 0, 0, 2, 69, 0, 0, 2, 149, 0, 0, 2, 217, 0, 0, 3, 41, 0, 0, 3, 109, 0, 0, 3, 165, 0, 0, 3, 221, 0, 0, 4, 33, 0, 0, 4, 46, 0, 0, 4, 102, 0, 0, 4, 170, 0, 0, 4, 238, 0, 0, 4, 251, 0, 0, 5, 51, 0, 0, 5, 119, 0, 0, 5, 187, 0, 0, 5, 243, 0, 0, 6, 1, 0, 0, 6, 67]
abbrev dktL_law_2 : List UInt8 := dkwL_law_2 ++ dktL_law_3
def dkwL_law_1 : List UInt8 := [58, 4, 3, 54, 5, 21, 5, 42, 190, 7, 100, 163, 6, 148, 42, 21, 5, 46, 16, 31, 126]
abbrev dktL_law_1 : List UInt8 := dkwL_law_1 ++ dktL_law_2
def dkwL_law_0 : List UInt8 := [187, 0, 8, 89, 183, 0, 101, 76, 187, 0, 102, 89, 183, 0, 104, 77, 4, 188, 11, 78, 4, 188, 7]
abbrev dktL_law_0 : List UInt8 := dkwL_law_0 ++ dktL_law_1
theorem dksL_law_0 : cL_law.data.toList.drop 0 = dktL_law_0 := by decide +kernel
theorem dksL_law_1 : cL_law.data.toList.drop 23 = dktL_law_1 := dk_seg dksL_law_0 23 rfl rfl
theorem dksL_law_2 : cL_law.data.toList.drop 44 = dktL_law_2 := dk_seg dksL_law_1 21 rfl rfl
theorem dksL_law_3 : cL_law.data.toList.drop 168 = dktL_law_3 := dk_seg dksL_law_2 124 rfl rfl
theorem dksL_law_4 : cL_law.data.toList.drop 192 = dktL_law_4 := dk_seg dksL_law_3 24 rfl rfl
theorem dksL_law_5 : cL_law.data.toList.drop 216 = dktL_law_5 := dk_seg dksL_law_4 24 rfl rfl
theorem dksL_law_6 : cL_law.data.toList.drop 238 = dktL_law_6 := dk_seg dksL_law_5 22 rfl rfl
theorem dksL_law_7 : cL_law.data.toList.drop 262 = dktL_law_7 := dk_seg dksL_law_6 24 rfl rfl
theorem dksL_law_8 : cL_law.data.toList.drop 286 = dktL_law_8 := dk_seg dksL_law_7 24 rfl rfl
theorem dksL_law_9 : cL_law.data.toList.drop 310 = dktL_law_9 := dk_seg dksL_law_8 24 rfl rfl
theorem dksL_law_10 : cL_law.data.toList.drop 333 = dktL_law_10 := dk_seg dksL_law_9 23 rfl rfl
theorem dksL_law_11 : cL_law.data.toList.drop 357 = dktL_law_11 := dk_seg dksL_law_10 24 rfl rfl
theorem dksL_law_12 : cL_law.data.toList.drop 379 = dktL_law_12 := dk_seg dksL_law_11 22 rfl rfl
theorem dksL_law_13 : cL_law.data.toList.drop 403 = dktL_law_13 := dk_seg dksL_law_12 24 rfl rfl
theorem dksL_law_14 : cL_law.data.toList.drop 427 = dktL_law_14 := dk_seg dksL_law_13 24 rfl rfl
theorem dksL_law_15 : cL_law.data.toList.drop 451 = dktL_law_15 := dk_seg dksL_law_14 24 rfl rfl
theorem dksL_law_16 : cL_law.data.toList.drop 475 = dktL_law_16 := dk_seg dksL_law_15 24 rfl rfl
theorem dksL_law_17 : cL_law.data.toList.drop 499 = dktL_law_17 := dk_seg dksL_law_16 24 rfl rfl
theorem dksL_law_18 : cL_law.data.toList.drop 521 = dktL_law_18 := dk_seg dksL_law_17 22 rfl rfl
theorem dksL_law_19 : cL_law.data.toList.drop 544 = dktL_law_19 := dk_seg dksL_law_18 23 rfl rfl
theorem dksL_law_20 : cL_law.data.toList.drop 566 = dktL_law_20 := dk_seg dksL_law_19 22 rfl rfl
theorem dksL_law_21 : cL_law.data.toList.drop 589 = dktL_law_21 := dk_seg dksL_law_20 23 rfl rfl
theorem dksL_law_22 : cL_law.data.toList.drop 613 = dktL_law_22 := dk_seg dksL_law_21 24 rfl rfl
theorem dksL_law_23 : cL_law.data.toList.drop 637 = dktL_law_23 := dk_seg dksL_law_22 24 rfl rfl
theorem dksL_law_24 : cL_law.data.toList.drop 661 = dktL_law_24 := dk_seg dksL_law_23 24 rfl rfl
theorem dksL_law_25 : cL_law.data.toList.drop 685 = dktL_law_25 := dk_seg dksL_law_24 24 rfl rfl
theorem dksL_law_26 : cL_law.data.toList.drop 709 = dktL_law_26 := dk_seg dksL_law_25 24 rfl rfl
theorem dksL_law_27 : cL_law.data.toList.drop 732 = dktL_law_27 := dk_seg dksL_law_26 23 rfl rfl
theorem dksL_law_28 : cL_law.data.toList.drop 755 = dktL_law_28 := dk_seg dksL_law_27 23 rfl rfl
theorem dksL_law_29 : cL_law.data.toList.drop 779 = dktL_law_29 := dk_seg dksL_law_28 24 rfl rfl
theorem dksL_law_30 : cL_law.data.toList.drop 803 = dktL_law_30 := dk_seg dksL_law_29 24 rfl rfl
theorem dksL_law_31 : cL_law.data.toList.drop 826 = dktL_law_31 := dk_seg dksL_law_30 23 rfl rfl
theorem dksL_law_32 : cL_law.data.toList.drop 850 = dktL_law_32 := dk_seg dksL_law_31 24 rfl rfl
theorem dksL_law_33 : cL_law.data.toList.drop 874 = dktL_law_33 := dk_seg dksL_law_32 24 rfl rfl
theorem dksL_law_34 : cL_law.data.toList.drop 896 = dktL_law_34 := dk_seg dksL_law_33 22 rfl rfl
theorem dksL_law_35 : cL_law.data.toList.drop 918 = dktL_law_35 := dk_seg dksL_law_34 22 rfl rfl
theorem dksL_law_36 : cL_law.data.toList.drop 941 = dktL_law_36 := dk_seg dksL_law_35 23 rfl rfl
theorem dksL_law_37 : cL_law.data.toList.drop 965 = dktL_law_37 := dk_seg dksL_law_36 24 rfl rfl
theorem dksL_law_38 : cL_law.data.toList.drop 988 = dktL_law_38 := dk_seg dksL_law_37 23 rfl rfl
theorem dksL_law_39 : cL_law.data.toList.drop 1012 = dktL_law_39 := dk_seg dksL_law_38 24 rfl rfl
theorem dksL_law_40 : cL_law.data.toList.drop 1035 = dktL_law_40 := dk_seg dksL_law_39 23 rfl rfl
theorem dksL_law_41 : cL_law.data.toList.drop 1059 = dktL_law_41 := dk_seg dksL_law_40 24 rfl rfl
theorem dksL_law_42 : cL_law.data.toList.drop 1083 = dktL_law_42 := dk_seg dksL_law_41 24 rfl rfl
theorem dksL_law_43 : cL_law.data.toList.drop 1106 = dktL_law_43 := dk_seg dksL_law_42 23 rfl rfl
theorem dksL_law_44 : cL_law.data.toList.drop 1129 = dktL_law_44 := dk_seg dksL_law_43 23 rfl rfl
theorem dksL_law_45 : cL_law.data.toList.drop 1152 = dktL_law_45 := dk_seg dksL_law_44 23 rfl rfl
theorem dksL_law_46 : cL_law.data.toList.drop 1176 = dktL_law_46 := dk_seg dksL_law_45 24 rfl rfl
theorem dksL_law_47 : cL_law.data.toList.drop 1200 = dktL_law_47 := dk_seg dksL_law_46 24 rfl rfl
theorem dksL_law_48 : cL_law.data.toList.drop 1224 = dktL_law_48 := dk_seg dksL_law_47 24 rfl rfl
theorem dksL_law_49 : cL_law.data.toList.drop 1248 = dktL_law_49 := dk_seg dksL_law_48 24 rfl rfl
theorem dksL_law_50 : cL_law.data.toList.drop 1270 = dktL_law_50 := dk_seg dksL_law_49 22 rfl rfl
theorem dksL_law_51 : cL_law.data.toList.drop 1294 = dktL_law_51 := dk_seg dksL_law_50 24 rfl rfl
theorem dksL_law_52 : cL_law.data.toList.drop 1318 = dktL_law_52 := dk_seg dksL_law_51 24 rfl rfl
theorem dksL_law_53 : cL_law.data.toList.drop 1342 = dktL_law_53 := dk_seg dksL_law_52 24 rfl rfl
theorem dksL_law_54 : cL_law.data.toList.drop 1366 = dktL_law_54 := dk_seg dksL_law_53 24 rfl rfl
theorem dksL_law_55 : cL_law.data.toList.drop 1389 = dktL_law_55 := dk_seg dksL_law_54 23 rfl rfl
theorem dksL_law_56 : cL_law.data.toList.drop 1413 = dktL_law_56 := dk_seg dksL_law_55 24 rfl rfl
theorem dksL_law_57 : cL_law.data.toList.drop 1435 = dktL_law_57 := dk_seg dksL_law_56 22 rfl rfl
theorem dksL_law_58 : cL_law.data.toList.drop 1457 = dktL_law_58 := dk_seg dksL_law_57 22 rfl rfl
theorem dksL_law_59 : cL_law.data.toList.drop 1481 = dktL_law_59 := dk_seg dksL_law_58 24 rfl rfl
theorem dksL_law_60 : cL_law.data.toList.drop 1503 = dktL_law_60 := dk_seg dksL_law_59 22 rfl rfl
theorem dksL_law_61 : cL_law.data.toList.drop 1526 = dktL_law_61 := dk_seg dksL_law_60 23 rfl rfl
theorem dksL_law_62 : cL_law.data.toList.drop 1549 = dktL_law_62 := dk_seg dksL_law_61 23 rfl rfl
theorem dksL_law_63 : cL_law.data.toList.drop 1572 = dktL_law_63 := dk_seg dksL_law_62 23 rfl rfl
theorem dksL_law_64 : cL_law.data.toList.drop 1596 = dktL_law_64 := dk_seg dksL_law_63 24 rfl rfl
theorem dksL_law_65 : cL_law.data.toList.drop 1619 = dktL_law_65 := dk_seg dksL_law_64 23 rfl rfl
theorem dksL_law_66 : cL_law.data.toList.drop 1643 = dktL_law_66 := dk_seg dksL_law_65 24 rfl rfl
theorem dksL_law_67 : cL_law.data.toList.drop 1667 = dktL_law_67 := dk_seg dksL_law_66 24 rfl rfl
theorem dksL_law_68 : cL_law.data.toList.drop 1691 = dktL_law_68 := dk_seg dksL_law_67 24 rfl rfl
theorem dksL_law_69 : cL_law.data.toList.drop 1715 = dktL_law_69 := dk_seg dksL_law_68 24 rfl rfl
theorem dL_law_0 : decode cL_law 0 = .ok (.new 8, 3) := dk_187 0 8 (dk_at dksL_law_0 0 rfl rfl)
theorem dL_law_3 : decode cL_law 3 = .ok (.dup, 1) := dk_89 (dk_at dksL_law_0 3 rfl rfl)
theorem dL_law_4 : decode cL_law 4 = .ok (.invokespecial 101, 3) := dk_183 0 101 (dk_at dksL_law_0 4 rfl rfl)
theorem dL_law_7 : decode cL_law 7 = .ok (.astore_n 1, 1) := dk_76 (dk_at dksL_law_0 7 rfl rfl)
theorem dL_law_8 : decode cL_law 8 = .ok (.new 102, 3) := dk_187 0 102 (dk_at dksL_law_0 8 rfl rfl)
theorem dL_law_11 : decode cL_law 11 = .ok (.dup, 1) := dk_89 (dk_at dksL_law_0 11 rfl rfl)
theorem dL_law_12 : decode cL_law 12 = .ok (.invokespecial 104, 3) := dk_183 0 104 (dk_at dksL_law_0 12 rfl rfl)
theorem dL_law_15 : decode cL_law 15 = .ok (.astore_n 2, 1) := dk_77 (dk_at dksL_law_0 15 rfl rfl)
theorem dL_law_16 : decode cL_law 16 = .ok (.iconst 1, 1) := dk_4 (dk_at dksL_law_0 16 rfl rfl)
theorem dL_law_17 : decode cL_law 17 = .ok (.newarray .long, 2) := dk_188_11 (dk_at dksL_law_0 17 rfl rfl)
theorem dL_law_19 : decode cL_law 19 = .ok (.astore_n 3, 1) := dk_78 (dk_at dksL_law_0 19 rfl rfl)
theorem dL_law_20 : decode cL_law 20 = .ok (.iconst 1, 1) := dk_4 (dk_at dksL_law_0 20 rfl rfl)
theorem dL_law_21 : decode cL_law 21 = .ok (.newarray .double, 2) := dk_188_7 (dk_at dksL_law_0 21 rfl rfl)
theorem dL_law_23 : decode cL_law 23 = .ok (.astore 4, 2) := dk_58 4 (dk_at dksL_law_1 0 rfl rfl)
theorem dL_law_25 : decode cL_law 25 = .ok (.iconst 0, 1) := dk_3 (dk_at dksL_law_1 2 rfl rfl)
theorem dL_law_26 : decode cL_law 26 = .ok (.istore 5, 2) := dk_54 5 (dk_at dksL_law_1 3 rfl rfl)
theorem dL_law_28 : decode cL_law 28 = .ok (.iload 5, 2) := dk_21 5 (dk_at dksL_law_1 5 rfl rfl)
theorem dL_law_30 : decode cL_law 30 = .ok (.aload_n 0, 1) := dk_42 (dk_at dksL_law_1 7 rfl rfl)
theorem dL_law_31 : decode cL_law 31 = .ok (.arraylength, 1) := dk_190 (dk_at dksL_law_1 8 rfl rfl)
theorem dL_law_32 : decode cL_law 32 = .ok (.iconst 4, 1) := dk_7 (dk_at dksL_law_1 9 rfl rfl)
theorem dL_law_33 : decode cL_law 33 = .ok (.isub, 1) := dk_100 (dk_at dksL_law_1 10 rfl rfl)
theorem dL_law_34 : decode cL_law 34 = .ok (.if_icmp .gt 1684, 3) := dk_163 6 148 (dk_at dksL_law_1 11 rfl rfl)
theorem dL_law_37 : decode cL_law 37 = .ok (.aload_n 0, 1) := dk_42 (dk_at dksL_law_1 14 rfl rfl)
theorem dL_law_38 : decode cL_law 38 = .ok (.iload 5, 2) := dk_21 5 (dk_at dksL_law_1 15 rfl rfl)
theorem dL_law_40 : decode cL_law 40 = .ok (.iaload, 1) := dk_46 (dk_at dksL_law_1 17 rfl rfl)
theorem dL_law_41 : decode cL_law 41 = .ok (.bipush 31, 2) := dk_16 31 (dk_at dksL_law_1 18 rfl rfl)
theorem dL_law_43 : decode cL_law 43 = .ok (.iand, 1) := dk_126 (dk_at dksL_law_1 20 rfl rfl)
theorem dL_law_44 : decode cL_law 44 = .ok (.tableswitch 1668 0 26 #[124, 168, 231, 287, 343, 401, 469, 525, 581, 661, 729, 809, 877, 933, 989, 1057, 1070, 1126, 1194, 1262, 1275, 1331, 1399, 1467, 1523, 1537, 1603], 124) := by decide +kernel
theorem dL_law_168 : decode cL_law 168 = .ok (.aload_n 1, 1) := dk_43 (dk_at dksL_law_3 0 rfl rfl)
theorem dL_law_169 : decode cL_law 169 = .ok (.aload_n 3, 1) := dk_45 (dk_at dksL_law_3 1 rfl rfl)
theorem dL_law_170 : decode cL_law 170 = .ok (.invokestatic 105, 3) := dk_184 0 105 (dk_at dksL_law_3 2 rfl rfl)
theorem dL_law_173 : decode cL_law 173 = .ok (.istore 6, 2) := dk_54 6 (dk_at dksL_law_3 5 rfl rfl)
theorem dL_law_175 : decode cL_law 175 = .ok (.aload_n 2, 1) := dk_44 (dk_at dksL_law_3 7 rfl rfl)
theorem dL_law_176 : decode cL_law 176 = .ok (.invokevirtual 110, 3) := dk_182 0 110 (dk_at dksL_law_3 8 rfl rfl)
theorem dL_law_179 : decode cL_law 179 = .ok (.istore 7, 2) := dk_54 7 (dk_at dksL_law_3 11 rfl rfl)
theorem dL_law_181 : decode cL_law 181 = .ok (.aload_n 2, 1) := dk_44 (dk_at dksL_law_3 13 rfl rfl)
theorem dL_law_182 : decode cL_law 182 = .ok (.invokevirtual 111, 3) := dk_182 0 111 (dk_at dksL_law_3 14 rfl rfl)
theorem dL_law_185 : decode cL_law 185 = .ok (.iload 6, 2) := dk_21 6 (dk_at dksL_law_3 17 rfl rfl)
theorem dL_law_187 : decode cL_law 187 = .ok (.if_icmp .eq 5, 3) := dk_159 0 5 (dk_at dksL_law_3 19 rfl rfl)
theorem dL_law_190 : decode cL_law 190 = .ok (.iconst 0, 1) := dk_3 (dk_at dksL_law_3 22 rfl rfl)
theorem dL_law_191 : decode cL_law 191 = .ok (.ireturn, 1) := dk_172 (dk_at dksL_law_3 23 rfl rfl)
theorem dL_law_192 : decode cL_law 192 = .ok (.iload 6, 2) := dk_21 6 (dk_at dksL_law_4 0 rfl rfl)
theorem dL_law_194 : decode cL_law 194 = .ok (.ifCond .ne 15, 3) := dk_154 0 15 (dk_at dksL_law_4 2 rfl rfl)
theorem dL_law_197 : decode cL_law 197 = .ok (.aload_n 3, 1) := dk_45 (dk_at dksL_law_4 5 rfl rfl)
theorem dL_law_198 : decode cL_law 198 = .ok (.iconst 0, 1) := dk_3 (dk_at dksL_law_4 6 rfl rfl)
theorem dL_law_199 : decode cL_law 199 = .ok (.laload, 1) := dk_47 (dk_at dksL_law_4 7 rfl rfl)
theorem dL_law_200 : decode cL_law 200 = .ok (.iload 7, 2) := dk_21 7 (dk_at dksL_law_4 8 rfl rfl)
theorem dL_law_202 : decode cL_law 202 = .ok (.i2l, 1) := dk_133 (dk_at dksL_law_4 10 rfl rfl)
theorem dL_law_203 : decode cL_law 203 = .ok (.lcmp, 1) := dk_148 (dk_at dksL_law_4 11 rfl rfl)
theorem dL_law_204 : decode cL_law 204 = .ok (.ifCond .eq 5, 3) := dk_153 0 5 (dk_at dksL_law_4 12 rfl rfl)
theorem dL_law_207 : decode cL_law 207 = .ok (.iconst 0, 1) := dk_3 (dk_at dksL_law_4 15 rfl rfl)
theorem dL_law_208 : decode cL_law 208 = .ok (.ireturn, 1) := dk_172 (dk_at dksL_law_4 16 rfl rfl)
theorem dL_law_209 : decode cL_law 209 = .ok (.goto 1503, 3) := dk_167 5 223 (dk_at dksL_law_4 17 rfl rfl)
theorem dL_law_212 : decode cL_law 212 = .ok (.aload_n 1, 1) := dk_43 (dk_at dksL_law_4 20 rfl rfl)
theorem dL_law_213 : decode cL_law 213 = .ok (.aload_n 0, 1) := dk_42 (dk_at dksL_law_4 21 rfl rfl)
theorem dL_law_214 : decode cL_law 214 = .ok (.iload 5, 2) := dk_21 5 (dk_at dksL_law_4 22 rfl rfl)
theorem dL_law_216 : decode cL_law 216 = .ok (.iconst 1, 1) := dk_4 (dk_at dksL_law_5 0 rfl rfl)
theorem dL_law_217 : decode cL_law 217 = .ok (.iadd, 1) := dk_96 (dk_at dksL_law_5 1 rfl rfl)
theorem dL_law_218 : decode cL_law 218 = .ok (.iaload, 1) := dk_46 (dk_at dksL_law_5 2 rfl rfl)
theorem dL_law_219 : decode cL_law 219 = .ok (.aload_n 3, 1) := dk_45 (dk_at dksL_law_5 3 rfl rfl)
theorem dL_law_220 : decode cL_law 220 = .ok (.invokestatic 114, 3) := dk_184 0 114 (dk_at dksL_law_5 4 rfl rfl)
theorem dL_law_223 : decode cL_law 223 = .ok (.istore 6, 2) := dk_54 6 (dk_at dksL_law_5 7 rfl rfl)
theorem dL_law_225 : decode cL_law 225 = .ok (.aload_n 2, 1) := dk_44 (dk_at dksL_law_5 9 rfl rfl)
theorem dL_law_226 : decode cL_law 226 = .ok (.aload_n 0, 1) := dk_42 (dk_at dksL_law_5 10 rfl rfl)
theorem dL_law_227 : decode cL_law 227 = .ok (.iload 5, 2) := dk_21 5 (dk_at dksL_law_5 11 rfl rfl)
theorem dL_law_229 : decode cL_law 229 = .ok (.iconst 1, 1) := dk_4 (dk_at dksL_law_5 13 rfl rfl)
theorem dL_law_230 : decode cL_law 230 = .ok (.iadd, 1) := dk_96 (dk_at dksL_law_5 14 rfl rfl)
theorem dL_law_231 : decode cL_law 231 = .ok (.iaload, 1) := dk_46 (dk_at dksL_law_5 15 rfl rfl)
theorem dL_law_232 : decode cL_law 232 = .ok (.invokevirtual 117, 3) := dk_182 0 117 (dk_at dksL_law_5 16 rfl rfl)
theorem dL_law_235 : decode cL_law 235 = .ok (.istore 7, 2) := dk_54 7 (dk_at dksL_law_5 19 rfl rfl)
theorem dL_law_237 : decode cL_law 237 = .ok (.aload_n 2, 1) := dk_44 (dk_at dksL_law_5 21 rfl rfl)
theorem dL_law_238 : decode cL_law 238 = .ok (.invokevirtual 111, 3) := dk_182 0 111 (dk_at dksL_law_6 0 rfl rfl)
theorem dL_law_241 : decode cL_law 241 = .ok (.iload 6, 2) := dk_21 6 (dk_at dksL_law_6 3 rfl rfl)
theorem dL_law_243 : decode cL_law 243 = .ok (.if_icmp .eq 5, 3) := dk_159 0 5 (dk_at dksL_law_6 5 rfl rfl)
theorem dL_law_246 : decode cL_law 246 = .ok (.iconst 0, 1) := dk_3 (dk_at dksL_law_6 8 rfl rfl)
theorem dL_law_247 : decode cL_law 247 = .ok (.ireturn, 1) := dk_172 (dk_at dksL_law_6 9 rfl rfl)
theorem dL_law_248 : decode cL_law 248 = .ok (.iload 6, 2) := dk_21 6 (dk_at dksL_law_6 10 rfl rfl)
theorem dL_law_250 : decode cL_law 250 = .ok (.ifCond .ne 22, 3) := dk_154 0 22 (dk_at dksL_law_6 12 rfl rfl)
theorem dL_law_253 : decode cL_law 253 = .ok (.aload_n 3, 1) := dk_45 (dk_at dksL_law_6 15 rfl rfl)
theorem dL_law_254 : decode cL_law 254 = .ok (.iconst 0, 1) := dk_3 (dk_at dksL_law_6 16 rfl rfl)
theorem dL_law_255 : decode cL_law 255 = .ok (.laload, 1) := dk_47 (dk_at dksL_law_6 17 rfl rfl)
theorem dL_law_256 : decode cL_law 256 = .ok (.iload 7, 2) := dk_21 7 (dk_at dksL_law_6 18 rfl rfl)
theorem dL_law_258 : decode cL_law 258 = .ok (.ifCond .eq 7, 3) := dk_153 0 7 (dk_at dksL_law_6 20 rfl rfl)
theorem dL_law_261 : decode cL_law 261 = .ok (.lconst 1, 1) := dk_10 (dk_at dksL_law_6 23 rfl rfl)
theorem dL_law_262 : decode cL_law 262 = .ok (.goto 4, 3) := dk_167 0 4 (dk_at dksL_law_7 0 rfl rfl)
theorem dL_law_265 : decode cL_law 265 = .ok (.lconst 0, 1) := dk_9 (dk_at dksL_law_7 3 rfl rfl)
theorem dL_law_266 : decode cL_law 266 = .ok (.lcmp, 1) := dk_148 (dk_at dksL_law_7 4 rfl rfl)
theorem dL_law_267 : decode cL_law 267 = .ok (.ifCond .eq 5, 3) := dk_153 0 5 (dk_at dksL_law_7 5 rfl rfl)
theorem dL_law_270 : decode cL_law 270 = .ok (.iconst 0, 1) := dk_3 (dk_at dksL_law_7 8 rfl rfl)
theorem dL_law_271 : decode cL_law 271 = .ok (.ireturn, 1) := dk_172 (dk_at dksL_law_7 9 rfl rfl)
theorem dL_law_272 : decode cL_law 272 = .ok (.goto 1440, 3) := dk_167 5 160 (dk_at dksL_law_7 10 rfl rfl)
theorem dL_law_275 : decode cL_law 275 = .ok (.aload_n 1, 1) := dk_43 (dk_at dksL_law_7 13 rfl rfl)
theorem dL_law_276 : decode cL_law 276 = .ok (.aload_n 0, 1) := dk_42 (dk_at dksL_law_7 14 rfl rfl)
theorem dL_law_277 : decode cL_law 277 = .ok (.iload 5, 2) := dk_21 5 (dk_at dksL_law_7 15 rfl rfl)
theorem dL_law_279 : decode cL_law 279 = .ok (.iconst 1, 1) := dk_4 (dk_at dksL_law_7 17 rfl rfl)
theorem dL_law_280 : decode cL_law 280 = .ok (.iadd, 1) := dk_96 (dk_at dksL_law_7 18 rfl rfl)
theorem dL_law_281 : decode cL_law 281 = .ok (.iaload, 1) := dk_46 (dk_at dksL_law_7 19 rfl rfl)
theorem dL_law_282 : decode cL_law 282 = .ok (.aload_n 3, 1) := dk_45 (dk_at dksL_law_7 20 rfl rfl)
theorem dL_law_283 : decode cL_law 283 = .ok (.invokestatic 118, 3) := dk_184 0 118 (dk_at dksL_law_7 21 rfl rfl)
theorem dL_law_286 : decode cL_law 286 = .ok (.istore 6, 2) := dk_54 6 (dk_at dksL_law_8 0 rfl rfl)
theorem dL_law_288 : decode cL_law 288 = .ok (.aload_n 2, 1) := dk_44 (dk_at dksL_law_8 2 rfl rfl)
theorem dL_law_289 : decode cL_law 289 = .ok (.aload_n 0, 1) := dk_42 (dk_at dksL_law_8 3 rfl rfl)
theorem dL_law_290 : decode cL_law 290 = .ok (.iload 5, 2) := dk_21 5 (dk_at dksL_law_8 4 rfl rfl)
theorem dL_law_292 : decode cL_law 292 = .ok (.iconst 1, 1) := dk_4 (dk_at dksL_law_8 6 rfl rfl)
theorem dL_law_293 : decode cL_law 293 = .ok (.iadd, 1) := dk_96 (dk_at dksL_law_8 7 rfl rfl)
theorem dL_law_294 : decode cL_law 294 = .ok (.iaload, 1) := dk_46 (dk_at dksL_law_8 8 rfl rfl)
theorem dL_law_295 : decode cL_law 295 = .ok (.invokevirtual 120, 3) := dk_182 0 120 (dk_at dksL_law_8 9 rfl rfl)
theorem dL_law_298 : decode cL_law 298 = .ok (.istore 7, 2) := dk_54 7 (dk_at dksL_law_8 12 rfl rfl)
theorem dL_law_300 : decode cL_law 300 = .ok (.aload_n 2, 1) := dk_44 (dk_at dksL_law_8 14 rfl rfl)
theorem dL_law_301 : decode cL_law 301 = .ok (.invokevirtual 111, 3) := dk_182 0 111 (dk_at dksL_law_8 15 rfl rfl)
theorem dL_law_304 : decode cL_law 304 = .ok (.iload 6, 2) := dk_21 6 (dk_at dksL_law_8 18 rfl rfl)
theorem dL_law_306 : decode cL_law 306 = .ok (.if_icmp .eq 5, 3) := dk_159 0 5 (dk_at dksL_law_8 20 rfl rfl)
theorem dL_law_309 : decode cL_law 309 = .ok (.iconst 0, 1) := dk_3 (dk_at dksL_law_8 23 rfl rfl)
theorem dL_law_310 : decode cL_law 310 = .ok (.ireturn, 1) := dk_172 (dk_at dksL_law_9 0 rfl rfl)
theorem dL_law_311 : decode cL_law 311 = .ok (.iload 6, 2) := dk_21 6 (dk_at dksL_law_9 1 rfl rfl)
theorem dL_law_313 : decode cL_law 313 = .ok (.ifCond .ne 15, 3) := dk_154 0 15 (dk_at dksL_law_9 3 rfl rfl)
theorem dL_law_316 : decode cL_law 316 = .ok (.aload_n 3, 1) := dk_45 (dk_at dksL_law_9 6 rfl rfl)
theorem dL_law_317 : decode cL_law 317 = .ok (.iconst 0, 1) := dk_3 (dk_at dksL_law_9 7 rfl rfl)
theorem dL_law_318 : decode cL_law 318 = .ok (.laload, 1) := dk_47 (dk_at dksL_law_9 8 rfl rfl)
theorem dL_law_319 : decode cL_law 319 = .ok (.iload 7, 2) := dk_21 7 (dk_at dksL_law_9 9 rfl rfl)
theorem dL_law_321 : decode cL_law 321 = .ok (.i2l, 1) := dk_133 (dk_at dksL_law_9 11 rfl rfl)
theorem dL_law_322 : decode cL_law 322 = .ok (.lcmp, 1) := dk_148 (dk_at dksL_law_9 12 rfl rfl)
theorem dL_law_323 : decode cL_law 323 = .ok (.ifCond .eq 5, 3) := dk_153 0 5 (dk_at dksL_law_9 13 rfl rfl)
theorem dL_law_326 : decode cL_law 326 = .ok (.iconst 0, 1) := dk_3 (dk_at dksL_law_9 16 rfl rfl)
theorem dL_law_327 : decode cL_law 327 = .ok (.ireturn, 1) := dk_172 (dk_at dksL_law_9 17 rfl rfl)
theorem dL_law_328 : decode cL_law 328 = .ok (.goto 1384, 3) := dk_167 5 104 (dk_at dksL_law_9 18 rfl rfl)
theorem dL_law_331 : decode cL_law 331 = .ok (.aload_n 1, 1) := dk_43 (dk_at dksL_law_9 21 rfl rfl)
theorem dL_law_332 : decode cL_law 332 = .ok (.aload_n 0, 1) := dk_42 (dk_at dksL_law_9 22 rfl rfl)
theorem dL_law_333 : decode cL_law 333 = .ok (.iload 5, 2) := dk_21 5 (dk_at dksL_law_10 0 rfl rfl)
theorem dL_law_335 : decode cL_law 335 = .ok (.iconst 1, 1) := dk_4 (dk_at dksL_law_10 2 rfl rfl)
theorem dL_law_336 : decode cL_law 336 = .ok (.iadd, 1) := dk_96 (dk_at dksL_law_10 3 rfl rfl)
theorem dL_law_337 : decode cL_law 337 = .ok (.iaload, 1) := dk_46 (dk_at dksL_law_10 4 rfl rfl)
theorem dL_law_338 : decode cL_law 338 = .ok (.aload_n 3, 1) := dk_45 (dk_at dksL_law_10 5 rfl rfl)
theorem dL_law_339 : decode cL_law 339 = .ok (.invokestatic 121, 3) := dk_184 0 121 (dk_at dksL_law_10 6 rfl rfl)
theorem dL_law_342 : decode cL_law 342 = .ok (.istore 6, 2) := dk_54 6 (dk_at dksL_law_10 9 rfl rfl)
theorem dL_law_344 : decode cL_law 344 = .ok (.aload_n 2, 1) := dk_44 (dk_at dksL_law_10 11 rfl rfl)
theorem dL_law_345 : decode cL_law 345 = .ok (.aload_n 0, 1) := dk_42 (dk_at dksL_law_10 12 rfl rfl)
theorem dL_law_346 : decode cL_law 346 = .ok (.iload 5, 2) := dk_21 5 (dk_at dksL_law_10 13 rfl rfl)
theorem dL_law_348 : decode cL_law 348 = .ok (.iconst 1, 1) := dk_4 (dk_at dksL_law_10 15 rfl rfl)
theorem dL_law_349 : decode cL_law 349 = .ok (.iadd, 1) := dk_96 (dk_at dksL_law_10 16 rfl rfl)
theorem dL_law_350 : decode cL_law 350 = .ok (.iaload, 1) := dk_46 (dk_at dksL_law_10 17 rfl rfl)
theorem dL_law_351 : decode cL_law 351 = .ok (.invokevirtual 123, 3) := dk_182 0 123 (dk_at dksL_law_10 18 rfl rfl)
theorem dL_law_354 : decode cL_law 354 = .ok (.istore 7, 2) := dk_54 7 (dk_at dksL_law_10 21 rfl rfl)
theorem dL_law_356 : decode cL_law 356 = .ok (.aload_n 2, 1) := dk_44 (dk_at dksL_law_10 23 rfl rfl)
theorem dL_law_357 : decode cL_law 357 = .ok (.invokevirtual 111, 3) := dk_182 0 111 (dk_at dksL_law_11 0 rfl rfl)
theorem dL_law_360 : decode cL_law 360 = .ok (.iload 6, 2) := dk_21 6 (dk_at dksL_law_11 3 rfl rfl)
theorem dL_law_362 : decode cL_law 362 = .ok (.if_icmp .eq 5, 3) := dk_159 0 5 (dk_at dksL_law_11 5 rfl rfl)
theorem dL_law_365 : decode cL_law 365 = .ok (.iconst 0, 1) := dk_3 (dk_at dksL_law_11 8 rfl rfl)
theorem dL_law_366 : decode cL_law 366 = .ok (.ireturn, 1) := dk_172 (dk_at dksL_law_11 9 rfl rfl)
theorem dL_law_367 : decode cL_law 367 = .ok (.iload 6, 2) := dk_21 6 (dk_at dksL_law_11 10 rfl rfl)
theorem dL_law_369 : decode cL_law 369 = .ok (.ifCond .ne 15, 3) := dk_154 0 15 (dk_at dksL_law_11 12 rfl rfl)
theorem dL_law_372 : decode cL_law 372 = .ok (.aload_n 3, 1) := dk_45 (dk_at dksL_law_11 15 rfl rfl)
theorem dL_law_373 : decode cL_law 373 = .ok (.iconst 0, 1) := dk_3 (dk_at dksL_law_11 16 rfl rfl)
theorem dL_law_374 : decode cL_law 374 = .ok (.laload, 1) := dk_47 (dk_at dksL_law_11 17 rfl rfl)
theorem dL_law_375 : decode cL_law 375 = .ok (.iload 7, 2) := dk_21 7 (dk_at dksL_law_11 18 rfl rfl)
theorem dL_law_377 : decode cL_law 377 = .ok (.i2l, 1) := dk_133 (dk_at dksL_law_11 20 rfl rfl)
theorem dL_law_378 : decode cL_law 378 = .ok (.lcmp, 1) := dk_148 (dk_at dksL_law_11 21 rfl rfl)
theorem dL_law_379 : decode cL_law 379 = .ok (.ifCond .eq 5, 3) := dk_153 0 5 (dk_at dksL_law_12 0 rfl rfl)
theorem dL_law_382 : decode cL_law 382 = .ok (.iconst 0, 1) := dk_3 (dk_at dksL_law_12 3 rfl rfl)
theorem dL_law_383 : decode cL_law 383 = .ok (.ireturn, 1) := dk_172 (dk_at dksL_law_12 4 rfl rfl)
theorem dL_law_384 : decode cL_law 384 = .ok (.goto 1328, 3) := dk_167 5 48 (dk_at dksL_law_12 5 rfl rfl)
theorem dL_law_387 : decode cL_law 387 = .ok (.aload_n 1, 1) := dk_43 (dk_at dksL_law_12 8 rfl rfl)
theorem dL_law_388 : decode cL_law 388 = .ok (.aload_n 0, 1) := dk_42 (dk_at dksL_law_12 9 rfl rfl)
theorem dL_law_389 : decode cL_law 389 = .ok (.iload 5, 2) := dk_21 5 (dk_at dksL_law_12 10 rfl rfl)
theorem dL_law_391 : decode cL_law 391 = .ok (.iconst 1, 1) := dk_4 (dk_at dksL_law_12 12 rfl rfl)
theorem dL_law_392 : decode cL_law 392 = .ok (.iadd, 1) := dk_96 (dk_at dksL_law_12 13 rfl rfl)
theorem dL_law_393 : decode cL_law 393 = .ok (.iaload, 1) := dk_46 (dk_at dksL_law_12 14 rfl rfl)
theorem dL_law_394 : decode cL_law 394 = .ok (.i2c, 1) := dk_146 (dk_at dksL_law_12 15 rfl rfl)
theorem dL_law_395 : decode cL_law 395 = .ok (.aload_n 3, 1) := dk_45 (dk_at dksL_law_12 16 rfl rfl)
theorem dL_law_396 : decode cL_law 396 = .ok (.invokestatic 124, 3) := dk_184 0 124 (dk_at dksL_law_12 17 rfl rfl)
theorem dL_law_399 : decode cL_law 399 = .ok (.istore 6, 2) := dk_54 6 (dk_at dksL_law_12 20 rfl rfl)
theorem dL_law_401 : decode cL_law 401 = .ok (.aload_n 2, 1) := dk_44 (dk_at dksL_law_12 22 rfl rfl)
theorem dL_law_402 : decode cL_law 402 = .ok (.aload_n 0, 1) := dk_42 (dk_at dksL_law_12 23 rfl rfl)
theorem dL_law_403 : decode cL_law 403 = .ok (.iload 5, 2) := dk_21 5 (dk_at dksL_law_13 0 rfl rfl)
theorem dL_law_405 : decode cL_law 405 = .ok (.iconst 1, 1) := dk_4 (dk_at dksL_law_13 2 rfl rfl)
theorem dL_law_406 : decode cL_law 406 = .ok (.iadd, 1) := dk_96 (dk_at dksL_law_13 3 rfl rfl)
theorem dL_law_407 : decode cL_law 407 = .ok (.iaload, 1) := dk_46 (dk_at dksL_law_13 4 rfl rfl)
theorem dL_law_408 : decode cL_law 408 = .ok (.i2c, 1) := dk_146 (dk_at dksL_law_13 5 rfl rfl)
theorem dL_law_409 : decode cL_law 409 = .ok (.invokevirtual 127, 3) := dk_182 0 127 (dk_at dksL_law_13 6 rfl rfl)
theorem dL_law_412 : decode cL_law 412 = .ok (.istore 7, 2) := dk_54 7 (dk_at dksL_law_13 9 rfl rfl)
theorem dL_law_414 : decode cL_law 414 = .ok (.aload_n 2, 1) := dk_44 (dk_at dksL_law_13 11 rfl rfl)
theorem dL_law_415 : decode cL_law 415 = .ok (.invokevirtual 111, 3) := dk_182 0 111 (dk_at dksL_law_13 12 rfl rfl)
theorem dL_law_418 : decode cL_law 418 = .ok (.iload 6, 2) := dk_21 6 (dk_at dksL_law_13 15 rfl rfl)
theorem dL_law_420 : decode cL_law 420 = .ok (.if_icmp .eq 5, 3) := dk_159 0 5 (dk_at dksL_law_13 17 rfl rfl)
theorem dL_law_423 : decode cL_law 423 = .ok (.iconst 0, 1) := dk_3 (dk_at dksL_law_13 20 rfl rfl)
theorem dL_law_424 : decode cL_law 424 = .ok (.ireturn, 1) := dk_172 (dk_at dksL_law_13 21 rfl rfl)
theorem dL_law_425 : decode cL_law 425 = .ok (.iload 6, 2) := dk_21 6 (dk_at dksL_law_13 22 rfl rfl)
theorem dL_law_427 : decode cL_law 427 = .ok (.ifCond .ne 15, 3) := dk_154 0 15 (dk_at dksL_law_14 0 rfl rfl)
theorem dL_law_430 : decode cL_law 430 = .ok (.aload_n 3, 1) := dk_45 (dk_at dksL_law_14 3 rfl rfl)
theorem dL_law_431 : decode cL_law 431 = .ok (.iconst 0, 1) := dk_3 (dk_at dksL_law_14 4 rfl rfl)
theorem dL_law_432 : decode cL_law 432 = .ok (.laload, 1) := dk_47 (dk_at dksL_law_14 5 rfl rfl)
theorem dL_law_433 : decode cL_law 433 = .ok (.iload 7, 2) := dk_21 7 (dk_at dksL_law_14 6 rfl rfl)
theorem dL_law_435 : decode cL_law 435 = .ok (.i2l, 1) := dk_133 (dk_at dksL_law_14 8 rfl rfl)
theorem dL_law_436 : decode cL_law 436 = .ok (.lcmp, 1) := dk_148 (dk_at dksL_law_14 9 rfl rfl)
theorem dL_law_437 : decode cL_law 437 = .ok (.ifCond .eq 5, 3) := dk_153 0 5 (dk_at dksL_law_14 10 rfl rfl)
theorem dL_law_440 : decode cL_law 440 = .ok (.iconst 0, 1) := dk_3 (dk_at dksL_law_14 13 rfl rfl)
theorem dL_law_441 : decode cL_law 441 = .ok (.ireturn, 1) := dk_172 (dk_at dksL_law_14 14 rfl rfl)
theorem dL_law_442 : decode cL_law 442 = .ok (.goto 1270, 3) := dk_167 4 246 (dk_at dksL_law_14 15 rfl rfl)
theorem dL_law_445 : decode cL_law 445 = .ok (.aload_n 1, 1) := dk_43 (dk_at dksL_law_14 18 rfl rfl)
theorem dL_law_446 : decode cL_law 446 = .ok (.aload_n 0, 1) := dk_42 (dk_at dksL_law_14 19 rfl rfl)
theorem dL_law_447 : decode cL_law 447 = .ok (.iload 5, 2) := dk_21 5 (dk_at dksL_law_14 20 rfl rfl)
theorem dL_law_449 : decode cL_law 449 = .ok (.iconst 1, 1) := dk_4 (dk_at dksL_law_14 22 rfl rfl)
theorem dL_law_450 : decode cL_law 450 = .ok (.iadd, 1) := dk_96 (dk_at dksL_law_14 23 rfl rfl)
theorem dL_law_451 : decode cL_law 451 = .ok (.iaload, 1) := dk_46 (dk_at dksL_law_15 0 rfl rfl)
theorem dL_law_452 : decode cL_law 452 = .ok (.aload_n 0, 1) := dk_42 (dk_at dksL_law_15 1 rfl rfl)
theorem dL_law_453 : decode cL_law 453 = .ok (.iload 5, 2) := dk_21 5 (dk_at dksL_law_15 2 rfl rfl)
theorem dL_law_455 : decode cL_law 455 = .ok (.iconst 2, 1) := dk_5 (dk_at dksL_law_15 4 rfl rfl)
theorem dL_law_456 : decode cL_law 456 = .ok (.iadd, 1) := dk_96 (dk_at dksL_law_15 5 rfl rfl)
theorem dL_law_457 : decode cL_law 457 = .ok (.iaload, 1) := dk_46 (dk_at dksL_law_15 6 rfl rfl)
theorem dL_law_458 : decode cL_law 458 = .ok (.aload_n 3, 1) := dk_45 (dk_at dksL_law_15 7 rfl rfl)
theorem dL_law_459 : decode cL_law 459 = .ok (.invokestatic 128, 3) := dk_184 0 128 (dk_at dksL_law_15 8 rfl rfl)
theorem dL_law_462 : decode cL_law 462 = .ok (.istore 6, 2) := dk_54 6 (dk_at dksL_law_15 11 rfl rfl)
theorem dL_law_464 : decode cL_law 464 = .ok (.aload_n 2, 1) := dk_44 (dk_at dksL_law_15 13 rfl rfl)
theorem dL_law_465 : decode cL_law 465 = .ok (.aload_n 0, 1) := dk_42 (dk_at dksL_law_15 14 rfl rfl)
theorem dL_law_466 : decode cL_law 466 = .ok (.iload 5, 2) := dk_21 5 (dk_at dksL_law_15 15 rfl rfl)
theorem dL_law_468 : decode cL_law 468 = .ok (.iconst 1, 1) := dk_4 (dk_at dksL_law_15 17 rfl rfl)
theorem dL_law_469 : decode cL_law 469 = .ok (.iadd, 1) := dk_96 (dk_at dksL_law_15 18 rfl rfl)
theorem dL_law_470 : decode cL_law 470 = .ok (.iaload, 1) := dk_46 (dk_at dksL_law_15 19 rfl rfl)
theorem dL_law_471 : decode cL_law 471 = .ok (.aload_n 0, 1) := dk_42 (dk_at dksL_law_15 20 rfl rfl)
theorem dL_law_472 : decode cL_law 472 = .ok (.iload 5, 2) := dk_21 5 (dk_at dksL_law_15 21 rfl rfl)
theorem dL_law_474 : decode cL_law 474 = .ok (.iconst 2, 1) := dk_5 (dk_at dksL_law_15 23 rfl rfl)
theorem dL_law_475 : decode cL_law 475 = .ok (.iadd, 1) := dk_96 (dk_at dksL_law_16 0 rfl rfl)
theorem dL_law_476 : decode cL_law 476 = .ok (.iaload, 1) := dk_46 (dk_at dksL_law_16 1 rfl rfl)
theorem dL_law_477 : decode cL_law 477 = .ok (.invokevirtual 131, 3) := dk_182 0 131 (dk_at dksL_law_16 2 rfl rfl)
theorem dL_law_480 : decode cL_law 480 = .ok (.istore 7, 2) := dk_54 7 (dk_at dksL_law_16 5 rfl rfl)
theorem dL_law_482 : decode cL_law 482 = .ok (.aload_n 2, 1) := dk_44 (dk_at dksL_law_16 7 rfl rfl)
theorem dL_law_483 : decode cL_law 483 = .ok (.invokevirtual 111, 3) := dk_182 0 111 (dk_at dksL_law_16 8 rfl rfl)
theorem dL_law_486 : decode cL_law 486 = .ok (.iload 6, 2) := dk_21 6 (dk_at dksL_law_16 11 rfl rfl)
theorem dL_law_488 : decode cL_law 488 = .ok (.if_icmp .eq 5, 3) := dk_159 0 5 (dk_at dksL_law_16 13 rfl rfl)
theorem dL_law_491 : decode cL_law 491 = .ok (.iconst 0, 1) := dk_3 (dk_at dksL_law_16 16 rfl rfl)
theorem dL_law_492 : decode cL_law 492 = .ok (.ireturn, 1) := dk_172 (dk_at dksL_law_16 17 rfl rfl)
theorem dL_law_493 : decode cL_law 493 = .ok (.iload 6, 2) := dk_21 6 (dk_at dksL_law_16 18 rfl rfl)
theorem dL_law_495 : decode cL_law 495 = .ok (.ifCond .ne 15, 3) := dk_154 0 15 (dk_at dksL_law_16 20 rfl rfl)
theorem dL_law_498 : decode cL_law 498 = .ok (.aload_n 3, 1) := dk_45 (dk_at dksL_law_16 23 rfl rfl)
theorem dL_law_499 : decode cL_law 499 = .ok (.iconst 0, 1) := dk_3 (dk_at dksL_law_17 0 rfl rfl)
theorem dL_law_500 : decode cL_law 500 = .ok (.laload, 1) := dk_47 (dk_at dksL_law_17 1 rfl rfl)
theorem dL_law_501 : decode cL_law 501 = .ok (.iload 7, 2) := dk_21 7 (dk_at dksL_law_17 2 rfl rfl)
theorem dL_law_503 : decode cL_law 503 = .ok (.i2l, 1) := dk_133 (dk_at dksL_law_17 4 rfl rfl)
theorem dL_law_504 : decode cL_law 504 = .ok (.lcmp, 1) := dk_148 (dk_at dksL_law_17 5 rfl rfl)
theorem dL_law_505 : decode cL_law 505 = .ok (.ifCond .eq 5, 3) := dk_153 0 5 (dk_at dksL_law_17 6 rfl rfl)
theorem dL_law_508 : decode cL_law 508 = .ok (.iconst 0, 1) := dk_3 (dk_at dksL_law_17 9 rfl rfl)
theorem dL_law_509 : decode cL_law 509 = .ok (.ireturn, 1) := dk_172 (dk_at dksL_law_17 10 rfl rfl)
theorem dL_law_510 : decode cL_law 510 = .ok (.goto 1202, 3) := dk_167 4 178 (dk_at dksL_law_17 11 rfl rfl)
theorem dL_law_513 : decode cL_law 513 = .ok (.aload_n 1, 1) := dk_43 (dk_at dksL_law_17 14 rfl rfl)
theorem dL_law_514 : decode cL_law 514 = .ok (.aload_n 0, 1) := dk_42 (dk_at dksL_law_17 15 rfl rfl)
theorem dL_law_515 : decode cL_law 515 = .ok (.iload 5, 2) := dk_21 5 (dk_at dksL_law_17 16 rfl rfl)
theorem dL_law_517 : decode cL_law 517 = .ok (.iconst 1, 1) := dk_4 (dk_at dksL_law_17 18 rfl rfl)
theorem dL_law_518 : decode cL_law 518 = .ok (.iadd, 1) := dk_96 (dk_at dksL_law_17 19 rfl rfl)
theorem dL_law_519 : decode cL_law 519 = .ok (.iaload, 1) := dk_46 (dk_at dksL_law_17 20 rfl rfl)
theorem dL_law_520 : decode cL_law 520 = .ok (.aload_n 3, 1) := dk_45 (dk_at dksL_law_17 21 rfl rfl)
theorem dL_law_521 : decode cL_law 521 = .ok (.invokestatic 132, 3) := dk_184 0 132 (dk_at dksL_law_18 0 rfl rfl)
theorem dL_law_524 : decode cL_law 524 = .ok (.istore 6, 2) := dk_54 6 (dk_at dksL_law_18 3 rfl rfl)
theorem dL_law_526 : decode cL_law 526 = .ok (.aload_n 2, 1) := dk_44 (dk_at dksL_law_18 5 rfl rfl)
theorem dL_law_527 : decode cL_law 527 = .ok (.aload_n 0, 1) := dk_42 (dk_at dksL_law_18 6 rfl rfl)
theorem dL_law_528 : decode cL_law 528 = .ok (.iload 5, 2) := dk_21 5 (dk_at dksL_law_18 7 rfl rfl)
theorem dL_law_530 : decode cL_law 530 = .ok (.iconst 1, 1) := dk_4 (dk_at dksL_law_18 9 rfl rfl)
theorem dL_law_531 : decode cL_law 531 = .ok (.iadd, 1) := dk_96 (dk_at dksL_law_18 10 rfl rfl)
theorem dL_law_532 : decode cL_law 532 = .ok (.iaload, 1) := dk_46 (dk_at dksL_law_18 11 rfl rfl)
theorem dL_law_533 : decode cL_law 533 = .ok (.invokevirtual 134, 3) := dk_182 0 134 (dk_at dksL_law_18 12 rfl rfl)
theorem dL_law_536 : decode cL_law 536 = .ok (.istore 7, 2) := dk_54 7 (dk_at dksL_law_18 15 rfl rfl)
theorem dL_law_538 : decode cL_law 538 = .ok (.aload_n 2, 1) := dk_44 (dk_at dksL_law_18 17 rfl rfl)
theorem dL_law_539 : decode cL_law 539 = .ok (.invokevirtual 111, 3) := dk_182 0 111 (dk_at dksL_law_18 18 rfl rfl)
theorem dL_law_542 : decode cL_law 542 = .ok (.iload 6, 2) := dk_21 6 (dk_at dksL_law_18 21 rfl rfl)
theorem dL_law_544 : decode cL_law 544 = .ok (.if_icmp .eq 5, 3) := dk_159 0 5 (dk_at dksL_law_19 0 rfl rfl)
theorem dL_law_547 : decode cL_law 547 = .ok (.iconst 0, 1) := dk_3 (dk_at dksL_law_19 3 rfl rfl)
theorem dL_law_548 : decode cL_law 548 = .ok (.ireturn, 1) := dk_172 (dk_at dksL_law_19 4 rfl rfl)
theorem dL_law_549 : decode cL_law 549 = .ok (.iload 6, 2) := dk_21 6 (dk_at dksL_law_19 5 rfl rfl)
theorem dL_law_551 : decode cL_law 551 = .ok (.ifCond .ne 15, 3) := dk_154 0 15 (dk_at dksL_law_19 7 rfl rfl)
theorem dL_law_554 : decode cL_law 554 = .ok (.aload_n 3, 1) := dk_45 (dk_at dksL_law_19 10 rfl rfl)
theorem dL_law_555 : decode cL_law 555 = .ok (.iconst 0, 1) := dk_3 (dk_at dksL_law_19 11 rfl rfl)
theorem dL_law_556 : decode cL_law 556 = .ok (.laload, 1) := dk_47 (dk_at dksL_law_19 12 rfl rfl)
theorem dL_law_557 : decode cL_law 557 = .ok (.iload 7, 2) := dk_21 7 (dk_at dksL_law_19 13 rfl rfl)
theorem dL_law_559 : decode cL_law 559 = .ok (.i2l, 1) := dk_133 (dk_at dksL_law_19 15 rfl rfl)
theorem dL_law_560 : decode cL_law 560 = .ok (.lcmp, 1) := dk_148 (dk_at dksL_law_19 16 rfl rfl)
theorem dL_law_561 : decode cL_law 561 = .ok (.ifCond .eq 5, 3) := dk_153 0 5 (dk_at dksL_law_19 17 rfl rfl)
theorem dL_law_564 : decode cL_law 564 = .ok (.iconst 0, 1) := dk_3 (dk_at dksL_law_19 20 rfl rfl)
theorem dL_law_565 : decode cL_law 565 = .ok (.ireturn, 1) := dk_172 (dk_at dksL_law_19 21 rfl rfl)
theorem dL_law_566 : decode cL_law 566 = .ok (.goto 1146, 3) := dk_167 4 122 (dk_at dksL_law_20 0 rfl rfl)
theorem dL_law_569 : decode cL_law 569 = .ok (.aload_n 1, 1) := dk_43 (dk_at dksL_law_20 3 rfl rfl)
theorem dL_law_570 : decode cL_law 570 = .ok (.aload_n 0, 1) := dk_42 (dk_at dksL_law_20 4 rfl rfl)
theorem dL_law_571 : decode cL_law 571 = .ok (.iload 5, 2) := dk_21 5 (dk_at dksL_law_20 5 rfl rfl)
theorem dL_law_573 : decode cL_law 573 = .ok (.iconst 1, 1) := dk_4 (dk_at dksL_law_20 7 rfl rfl)
theorem dL_law_574 : decode cL_law 574 = .ok (.iadd, 1) := dk_96 (dk_at dksL_law_20 8 rfl rfl)
theorem dL_law_575 : decode cL_law 575 = .ok (.iaload, 1) := dk_46 (dk_at dksL_law_20 9 rfl rfl)
theorem dL_law_576 : decode cL_law 576 = .ok (.aload_n 3, 1) := dk_45 (dk_at dksL_law_20 10 rfl rfl)
theorem dL_law_577 : decode cL_law 577 = .ok (.invokestatic 135, 3) := dk_184 0 135 (dk_at dksL_law_20 11 rfl rfl)
theorem dL_law_580 : decode cL_law 580 = .ok (.istore 6, 2) := dk_54 6 (dk_at dksL_law_20 14 rfl rfl)
theorem dL_law_582 : decode cL_law 582 = .ok (.aload_n 2, 1) := dk_44 (dk_at dksL_law_20 16 rfl rfl)
theorem dL_law_583 : decode cL_law 583 = .ok (.aload_n 0, 1) := dk_42 (dk_at dksL_law_20 17 rfl rfl)
theorem dL_law_584 : decode cL_law 584 = .ok (.iload 5, 2) := dk_21 5 (dk_at dksL_law_20 18 rfl rfl)
theorem dL_law_586 : decode cL_law 586 = .ok (.iconst 1, 1) := dk_4 (dk_at dksL_law_20 20 rfl rfl)
theorem dL_law_587 : decode cL_law 587 = .ok (.iadd, 1) := dk_96 (dk_at dksL_law_20 21 rfl rfl)
theorem dL_law_588 : decode cL_law 588 = .ok (.iaload, 1) := dk_46 (dk_at dksL_law_20 22 rfl rfl)
theorem dL_law_589 : decode cL_law 589 = .ok (.invokevirtual 137, 3) := dk_182 0 137 (dk_at dksL_law_21 0 rfl rfl)
theorem dL_law_592 : decode cL_law 592 = .ok (.istore 7, 2) := dk_54 7 (dk_at dksL_law_21 3 rfl rfl)
theorem dL_law_594 : decode cL_law 594 = .ok (.aload_n 2, 1) := dk_44 (dk_at dksL_law_21 5 rfl rfl)
theorem dL_law_595 : decode cL_law 595 = .ok (.invokevirtual 111, 3) := dk_182 0 111 (dk_at dksL_law_21 6 rfl rfl)
theorem dL_law_598 : decode cL_law 598 = .ok (.iload 6, 2) := dk_21 6 (dk_at dksL_law_21 9 rfl rfl)
theorem dL_law_600 : decode cL_law 600 = .ok (.if_icmp .eq 5, 3) := dk_159 0 5 (dk_at dksL_law_21 11 rfl rfl)
theorem dL_law_603 : decode cL_law 603 = .ok (.iconst 0, 1) := dk_3 (dk_at dksL_law_21 14 rfl rfl)
theorem dL_law_604 : decode cL_law 604 = .ok (.ireturn, 1) := dk_172 (dk_at dksL_law_21 15 rfl rfl)
theorem dL_law_605 : decode cL_law 605 = .ok (.iload 6, 2) := dk_21 6 (dk_at dksL_law_21 16 rfl rfl)
theorem dL_law_607 : decode cL_law 607 = .ok (.ifCond .ne 15, 3) := dk_154 0 15 (dk_at dksL_law_21 18 rfl rfl)
theorem dL_law_610 : decode cL_law 610 = .ok (.aload_n 3, 1) := dk_45 (dk_at dksL_law_21 21 rfl rfl)
theorem dL_law_611 : decode cL_law 611 = .ok (.iconst 0, 1) := dk_3 (dk_at dksL_law_21 22 rfl rfl)
theorem dL_law_612 : decode cL_law 612 = .ok (.laload, 1) := dk_47 (dk_at dksL_law_21 23 rfl rfl)
theorem dL_law_613 : decode cL_law 613 = .ok (.iload 7, 2) := dk_21 7 (dk_at dksL_law_22 0 rfl rfl)
theorem dL_law_615 : decode cL_law 615 = .ok (.i2l, 1) := dk_133 (dk_at dksL_law_22 2 rfl rfl)
theorem dL_law_616 : decode cL_law 616 = .ok (.lcmp, 1) := dk_148 (dk_at dksL_law_22 3 rfl rfl)
theorem dL_law_617 : decode cL_law 617 = .ok (.ifCond .eq 5, 3) := dk_153 0 5 (dk_at dksL_law_22 4 rfl rfl)
theorem dL_law_620 : decode cL_law 620 = .ok (.iconst 0, 1) := dk_3 (dk_at dksL_law_22 7 rfl rfl)
theorem dL_law_621 : decode cL_law 621 = .ok (.ireturn, 1) := dk_172 (dk_at dksL_law_22 8 rfl rfl)
theorem dL_law_622 : decode cL_law 622 = .ok (.goto 1090, 3) := dk_167 4 66 (dk_at dksL_law_22 9 rfl rfl)
theorem dL_law_625 : decode cL_law 625 = .ok (.aload_n 1, 1) := dk_43 (dk_at dksL_law_22 12 rfl rfl)
theorem dL_law_626 : decode cL_law 626 = .ok (.aload_n 0, 1) := dk_42 (dk_at dksL_law_22 13 rfl rfl)
theorem dL_law_627 : decode cL_law 627 = .ok (.iload 5, 2) := dk_21 5 (dk_at dksL_law_22 14 rfl rfl)
theorem dL_law_629 : decode cL_law 629 = .ok (.iconst 1, 1) := dk_4 (dk_at dksL_law_22 16 rfl rfl)
theorem dL_law_630 : decode cL_law 630 = .ok (.iadd, 1) := dk_96 (dk_at dksL_law_22 17 rfl rfl)
theorem dL_law_631 : decode cL_law 631 = .ok (.iaload, 1) := dk_46 (dk_at dksL_law_22 18 rfl rfl)
theorem dL_law_632 : decode cL_law 632 = .ok (.aload_n 0, 1) := dk_42 (dk_at dksL_law_22 19 rfl rfl)
theorem dL_law_633 : decode cL_law 633 = .ok (.iload 5, 2) := dk_21 5 (dk_at dksL_law_22 20 rfl rfl)
theorem dL_law_635 : decode cL_law 635 = .ok (.iconst 2, 1) := dk_5 (dk_at dksL_law_22 22 rfl rfl)
theorem dL_law_636 : decode cL_law 636 = .ok (.iadd, 1) := dk_96 (dk_at dksL_law_22 23 rfl rfl)
theorem dL_law_637 : decode cL_law 637 = .ok (.iaload, 1) := dk_46 (dk_at dksL_law_23 0 rfl rfl)
theorem dL_law_638 : decode cL_law 638 = .ok (.aload_n 0, 1) := dk_42 (dk_at dksL_law_23 1 rfl rfl)
theorem dL_law_639 : decode cL_law 639 = .ok (.iload 5, 2) := dk_21 5 (dk_at dksL_law_23 2 rfl rfl)
theorem dL_law_641 : decode cL_law 641 = .ok (.iconst 3, 1) := dk_6 (dk_at dksL_law_23 4 rfl rfl)
theorem dL_law_642 : decode cL_law 642 = .ok (.iadd, 1) := dk_96 (dk_at dksL_law_23 5 rfl rfl)
theorem dL_law_643 : decode cL_law 643 = .ok (.iaload, 1) := dk_46 (dk_at dksL_law_23 6 rfl rfl)
theorem dL_law_644 : decode cL_law 644 = .ok (.aload_n 3, 1) := dk_45 (dk_at dksL_law_23 7 rfl rfl)
theorem dL_law_645 : decode cL_law 645 = .ok (.invokestatic 138, 3) := dk_184 0 138 (dk_at dksL_law_23 8 rfl rfl)
theorem dL_law_648 : decode cL_law 648 = .ok (.istore 6, 2) := dk_54 6 (dk_at dksL_law_23 11 rfl rfl)
theorem dL_law_650 : decode cL_law 650 = .ok (.aload_n 2, 1) := dk_44 (dk_at dksL_law_23 13 rfl rfl)
theorem dL_law_651 : decode cL_law 651 = .ok (.aload_n 0, 1) := dk_42 (dk_at dksL_law_23 14 rfl rfl)
theorem dL_law_652 : decode cL_law 652 = .ok (.iload 5, 2) := dk_21 5 (dk_at dksL_law_23 15 rfl rfl)
theorem dL_law_654 : decode cL_law 654 = .ok (.iconst 1, 1) := dk_4 (dk_at dksL_law_23 17 rfl rfl)
theorem dL_law_655 : decode cL_law 655 = .ok (.iadd, 1) := dk_96 (dk_at dksL_law_23 18 rfl rfl)
theorem dL_law_656 : decode cL_law 656 = .ok (.iaload, 1) := dk_46 (dk_at dksL_law_23 19 rfl rfl)
theorem dL_law_657 : decode cL_law 657 = .ok (.aload_n 0, 1) := dk_42 (dk_at dksL_law_23 20 rfl rfl)
theorem dL_law_658 : decode cL_law 658 = .ok (.iload 5, 2) := dk_21 5 (dk_at dksL_law_23 21 rfl rfl)
theorem dL_law_660 : decode cL_law 660 = .ok (.iconst 2, 1) := dk_5 (dk_at dksL_law_23 23 rfl rfl)
theorem dL_law_661 : decode cL_law 661 = .ok (.iadd, 1) := dk_96 (dk_at dksL_law_24 0 rfl rfl)
theorem dL_law_662 : decode cL_law 662 = .ok (.iaload, 1) := dk_46 (dk_at dksL_law_24 1 rfl rfl)
theorem dL_law_663 : decode cL_law 663 = .ok (.aload_n 0, 1) := dk_42 (dk_at dksL_law_24 2 rfl rfl)
theorem dL_law_664 : decode cL_law 664 = .ok (.iload 5, 2) := dk_21 5 (dk_at dksL_law_24 3 rfl rfl)
theorem dL_law_666 : decode cL_law 666 = .ok (.iconst 3, 1) := dk_6 (dk_at dksL_law_24 5 rfl rfl)
theorem dL_law_667 : decode cL_law 667 = .ok (.iadd, 1) := dk_96 (dk_at dksL_law_24 6 rfl rfl)
theorem dL_law_668 : decode cL_law 668 = .ok (.iaload, 1) := dk_46 (dk_at dksL_law_24 7 rfl rfl)
theorem dL_law_669 : decode cL_law 669 = .ok (.invokevirtual 141, 3) := dk_182 0 141 (dk_at dksL_law_24 8 rfl rfl)
theorem dL_law_672 : decode cL_law 672 = .ok (.istore 7, 2) := dk_54 7 (dk_at dksL_law_24 11 rfl rfl)
theorem dL_law_674 : decode cL_law 674 = .ok (.aload_n 2, 1) := dk_44 (dk_at dksL_law_24 13 rfl rfl)
theorem dL_law_675 : decode cL_law 675 = .ok (.invokevirtual 111, 3) := dk_182 0 111 (dk_at dksL_law_24 14 rfl rfl)
theorem dL_law_678 : decode cL_law 678 = .ok (.iload 6, 2) := dk_21 6 (dk_at dksL_law_24 17 rfl rfl)
theorem dL_law_680 : decode cL_law 680 = .ok (.if_icmp .eq 5, 3) := dk_159 0 5 (dk_at dksL_law_24 19 rfl rfl)
theorem dL_law_683 : decode cL_law 683 = .ok (.iconst 0, 1) := dk_3 (dk_at dksL_law_24 22 rfl rfl)
theorem dL_law_684 : decode cL_law 684 = .ok (.ireturn, 1) := dk_172 (dk_at dksL_law_24 23 rfl rfl)
theorem dL_law_685 : decode cL_law 685 = .ok (.iload 6, 2) := dk_21 6 (dk_at dksL_law_25 0 rfl rfl)
theorem dL_law_687 : decode cL_law 687 = .ok (.ifCond .ne 15, 3) := dk_154 0 15 (dk_at dksL_law_25 2 rfl rfl)
theorem dL_law_690 : decode cL_law 690 = .ok (.aload_n 3, 1) := dk_45 (dk_at dksL_law_25 5 rfl rfl)
theorem dL_law_691 : decode cL_law 691 = .ok (.iconst 0, 1) := dk_3 (dk_at dksL_law_25 6 rfl rfl)
theorem dL_law_692 : decode cL_law 692 = .ok (.laload, 1) := dk_47 (dk_at dksL_law_25 7 rfl rfl)
theorem dL_law_693 : decode cL_law 693 = .ok (.iload 7, 2) := dk_21 7 (dk_at dksL_law_25 8 rfl rfl)
theorem dL_law_695 : decode cL_law 695 = .ok (.i2l, 1) := dk_133 (dk_at dksL_law_25 10 rfl rfl)
theorem dL_law_696 : decode cL_law 696 = .ok (.lcmp, 1) := dk_148 (dk_at dksL_law_25 11 rfl rfl)
theorem dL_law_697 : decode cL_law 697 = .ok (.ifCond .eq 5, 3) := dk_153 0 5 (dk_at dksL_law_25 12 rfl rfl)
theorem dL_law_700 : decode cL_law 700 = .ok (.iconst 0, 1) := dk_3 (dk_at dksL_law_25 15 rfl rfl)
theorem dL_law_701 : decode cL_law 701 = .ok (.ireturn, 1) := dk_172 (dk_at dksL_law_25 16 rfl rfl)
theorem dL_law_702 : decode cL_law 702 = .ok (.goto 1010, 3) := dk_167 3 242 (dk_at dksL_law_25 17 rfl rfl)
theorem dL_law_705 : decode cL_law 705 = .ok (.aload_n 1, 1) := dk_43 (dk_at dksL_law_25 20 rfl rfl)
theorem dL_law_706 : decode cL_law 706 = .ok (.aload_n 0, 1) := dk_42 (dk_at dksL_law_25 21 rfl rfl)
theorem dL_law_707 : decode cL_law 707 = .ok (.iload 5, 2) := dk_21 5 (dk_at dksL_law_25 22 rfl rfl)
theorem dL_law_709 : decode cL_law 709 = .ok (.iconst 1, 1) := dk_4 (dk_at dksL_law_26 0 rfl rfl)
theorem dL_law_710 : decode cL_law 710 = .ok (.iadd, 1) := dk_96 (dk_at dksL_law_26 1 rfl rfl)
theorem dL_law_711 : decode cL_law 711 = .ok (.iaload, 1) := dk_46 (dk_at dksL_law_26 2 rfl rfl)
theorem dL_law_712 : decode cL_law 712 = .ok (.aload_n 0, 1) := dk_42 (dk_at dksL_law_26 3 rfl rfl)
theorem dL_law_713 : decode cL_law 713 = .ok (.iload 5, 2) := dk_21 5 (dk_at dksL_law_26 4 rfl rfl)
theorem dL_law_715 : decode cL_law 715 = .ok (.iconst 2, 1) := dk_5 (dk_at dksL_law_26 6 rfl rfl)
theorem dL_law_716 : decode cL_law 716 = .ok (.iadd, 1) := dk_96 (dk_at dksL_law_26 7 rfl rfl)
theorem dL_law_717 : decode cL_law 717 = .ok (.iaload, 1) := dk_46 (dk_at dksL_law_26 8 rfl rfl)
theorem dL_law_718 : decode cL_law 718 = .ok (.aload_n 3, 1) := dk_45 (dk_at dksL_law_26 9 rfl rfl)
theorem dL_law_719 : decode cL_law 719 = .ok (.invokestatic 142, 3) := dk_184 0 142 (dk_at dksL_law_26 10 rfl rfl)
theorem dL_law_722 : decode cL_law 722 = .ok (.istore 6, 2) := dk_54 6 (dk_at dksL_law_26 13 rfl rfl)
theorem dL_law_724 : decode cL_law 724 = .ok (.aload_n 2, 1) := dk_44 (dk_at dksL_law_26 15 rfl rfl)
theorem dL_law_725 : decode cL_law 725 = .ok (.aload_n 0, 1) := dk_42 (dk_at dksL_law_26 16 rfl rfl)
theorem dL_law_726 : decode cL_law 726 = .ok (.iload 5, 2) := dk_21 5 (dk_at dksL_law_26 17 rfl rfl)
theorem dL_law_728 : decode cL_law 728 = .ok (.iconst 1, 1) := dk_4 (dk_at dksL_law_26 19 rfl rfl)
theorem dL_law_729 : decode cL_law 729 = .ok (.iadd, 1) := dk_96 (dk_at dksL_law_26 20 rfl rfl)
theorem dL_law_730 : decode cL_law 730 = .ok (.iaload, 1) := dk_46 (dk_at dksL_law_26 21 rfl rfl)
theorem dL_law_731 : decode cL_law 731 = .ok (.aload_n 0, 1) := dk_42 (dk_at dksL_law_26 22 rfl rfl)
theorem dL_law_732 : decode cL_law 732 = .ok (.iload 5, 2) := dk_21 5 (dk_at dksL_law_27 0 rfl rfl)
theorem dL_law_734 : decode cL_law 734 = .ok (.iconst 2, 1) := dk_5 (dk_at dksL_law_27 2 rfl rfl)
theorem dL_law_735 : decode cL_law 735 = .ok (.iadd, 1) := dk_96 (dk_at dksL_law_27 3 rfl rfl)
theorem dL_law_736 : decode cL_law 736 = .ok (.iaload, 1) := dk_46 (dk_at dksL_law_27 4 rfl rfl)
theorem dL_law_737 : decode cL_law 737 = .ok (.invokevirtual 144, 3) := dk_182 0 144 (dk_at dksL_law_27 5 rfl rfl)
theorem dL_law_740 : decode cL_law 740 = .ok (.istore 7, 2) := dk_54 7 (dk_at dksL_law_27 8 rfl rfl)
theorem dL_law_742 : decode cL_law 742 = .ok (.aload_n 2, 1) := dk_44 (dk_at dksL_law_27 10 rfl rfl)
theorem dL_law_743 : decode cL_law 743 = .ok (.invokevirtual 111, 3) := dk_182 0 111 (dk_at dksL_law_27 11 rfl rfl)
theorem dL_law_746 : decode cL_law 746 = .ok (.iload 6, 2) := dk_21 6 (dk_at dksL_law_27 14 rfl rfl)
theorem dL_law_748 : decode cL_law 748 = .ok (.if_icmp .eq 5, 3) := dk_159 0 5 (dk_at dksL_law_27 16 rfl rfl)
theorem dL_law_751 : decode cL_law 751 = .ok (.iconst 0, 1) := dk_3 (dk_at dksL_law_27 19 rfl rfl)
theorem dL_law_752 : decode cL_law 752 = .ok (.ireturn, 1) := dk_172 (dk_at dksL_law_27 20 rfl rfl)
theorem dL_law_753 : decode cL_law 753 = .ok (.iload 6, 2) := dk_21 6 (dk_at dksL_law_27 21 rfl rfl)
theorem dL_law_755 : decode cL_law 755 = .ok (.ifCond .ne 15, 3) := dk_154 0 15 (dk_at dksL_law_28 0 rfl rfl)
theorem dL_law_758 : decode cL_law 758 = .ok (.aload_n 3, 1) := dk_45 (dk_at dksL_law_28 3 rfl rfl)
theorem dL_law_759 : decode cL_law 759 = .ok (.iconst 0, 1) := dk_3 (dk_at dksL_law_28 4 rfl rfl)
theorem dL_law_760 : decode cL_law 760 = .ok (.laload, 1) := dk_47 (dk_at dksL_law_28 5 rfl rfl)
theorem dL_law_761 : decode cL_law 761 = .ok (.iload 7, 2) := dk_21 7 (dk_at dksL_law_28 6 rfl rfl)
theorem dL_law_763 : decode cL_law 763 = .ok (.i2l, 1) := dk_133 (dk_at dksL_law_28 8 rfl rfl)
theorem dL_law_764 : decode cL_law 764 = .ok (.lcmp, 1) := dk_148 (dk_at dksL_law_28 9 rfl rfl)
theorem dL_law_765 : decode cL_law 765 = .ok (.ifCond .eq 5, 3) := dk_153 0 5 (dk_at dksL_law_28 10 rfl rfl)
theorem dL_law_768 : decode cL_law 768 = .ok (.iconst 0, 1) := dk_3 (dk_at dksL_law_28 13 rfl rfl)
theorem dL_law_769 : decode cL_law 769 = .ok (.ireturn, 1) := dk_172 (dk_at dksL_law_28 14 rfl rfl)
theorem dL_law_770 : decode cL_law 770 = .ok (.goto 942, 3) := dk_167 3 174 (dk_at dksL_law_28 15 rfl rfl)
theorem dL_law_773 : decode cL_law 773 = .ok (.aload_n 1, 1) := dk_43 (dk_at dksL_law_28 18 rfl rfl)
theorem dL_law_774 : decode cL_law 774 = .ok (.aload_n 0, 1) := dk_42 (dk_at dksL_law_28 19 rfl rfl)
theorem dL_law_775 : decode cL_law 775 = .ok (.iload 5, 2) := dk_21 5 (dk_at dksL_law_28 20 rfl rfl)
theorem dL_law_777 : decode cL_law 777 = .ok (.iconst 1, 1) := dk_4 (dk_at dksL_law_28 22 rfl rfl)
theorem dL_law_778 : decode cL_law 778 = .ok (.iadd, 1) := dk_96 (dk_at dksL_law_28 23 rfl rfl)
theorem dL_law_779 : decode cL_law 779 = .ok (.iaload, 1) := dk_46 (dk_at dksL_law_29 0 rfl rfl)
theorem dL_law_780 : decode cL_law 780 = .ok (.aload_n 0, 1) := dk_42 (dk_at dksL_law_29 1 rfl rfl)
theorem dL_law_781 : decode cL_law 781 = .ok (.iload 5, 2) := dk_21 5 (dk_at dksL_law_29 2 rfl rfl)
theorem dL_law_783 : decode cL_law 783 = .ok (.iconst 2, 1) := dk_5 (dk_at dksL_law_29 4 rfl rfl)
theorem dL_law_784 : decode cL_law 784 = .ok (.iadd, 1) := dk_96 (dk_at dksL_law_29 5 rfl rfl)
theorem dL_law_785 : decode cL_law 785 = .ok (.iaload, 1) := dk_46 (dk_at dksL_law_29 6 rfl rfl)
theorem dL_law_786 : decode cL_law 786 = .ok (.aload_n 0, 1) := dk_42 (dk_at dksL_law_29 7 rfl rfl)
theorem dL_law_787 : decode cL_law 787 = .ok (.iload 5, 2) := dk_21 5 (dk_at dksL_law_29 8 rfl rfl)
theorem dL_law_789 : decode cL_law 789 = .ok (.iconst 3, 1) := dk_6 (dk_at dksL_law_29 10 rfl rfl)
theorem dL_law_790 : decode cL_law 790 = .ok (.iadd, 1) := dk_96 (dk_at dksL_law_29 11 rfl rfl)
theorem dL_law_791 : decode cL_law 791 = .ok (.iaload, 1) := dk_46 (dk_at dksL_law_29 12 rfl rfl)
theorem dL_law_792 : decode cL_law 792 = .ok (.aload_n 3, 1) := dk_45 (dk_at dksL_law_29 13 rfl rfl)
theorem dL_law_793 : decode cL_law 793 = .ok (.invokestatic 145, 3) := dk_184 0 145 (dk_at dksL_law_29 14 rfl rfl)
theorem dL_law_796 : decode cL_law 796 = .ok (.istore 6, 2) := dk_54 6 (dk_at dksL_law_29 17 rfl rfl)
theorem dL_law_798 : decode cL_law 798 = .ok (.aload_n 2, 1) := dk_44 (dk_at dksL_law_29 19 rfl rfl)
theorem dL_law_799 : decode cL_law 799 = .ok (.aload_n 0, 1) := dk_42 (dk_at dksL_law_29 20 rfl rfl)
theorem dL_law_800 : decode cL_law 800 = .ok (.iload 5, 2) := dk_21 5 (dk_at dksL_law_29 21 rfl rfl)
theorem dL_law_802 : decode cL_law 802 = .ok (.iconst 1, 1) := dk_4 (dk_at dksL_law_29 23 rfl rfl)
theorem dL_law_803 : decode cL_law 803 = .ok (.iadd, 1) := dk_96 (dk_at dksL_law_30 0 rfl rfl)
theorem dL_law_804 : decode cL_law 804 = .ok (.iaload, 1) := dk_46 (dk_at dksL_law_30 1 rfl rfl)
theorem dL_law_805 : decode cL_law 805 = .ok (.aload_n 0, 1) := dk_42 (dk_at dksL_law_30 2 rfl rfl)
theorem dL_law_806 : decode cL_law 806 = .ok (.iload 5, 2) := dk_21 5 (dk_at dksL_law_30 3 rfl rfl)
theorem dL_law_808 : decode cL_law 808 = .ok (.iconst 2, 1) := dk_5 (dk_at dksL_law_30 5 rfl rfl)
theorem dL_law_809 : decode cL_law 809 = .ok (.iadd, 1) := dk_96 (dk_at dksL_law_30 6 rfl rfl)
theorem dL_law_810 : decode cL_law 810 = .ok (.iaload, 1) := dk_46 (dk_at dksL_law_30 7 rfl rfl)
theorem dL_law_811 : decode cL_law 811 = .ok (.aload_n 0, 1) := dk_42 (dk_at dksL_law_30 8 rfl rfl)
theorem dL_law_812 : decode cL_law 812 = .ok (.iload 5, 2) := dk_21 5 (dk_at dksL_law_30 9 rfl rfl)
theorem dL_law_814 : decode cL_law 814 = .ok (.iconst 3, 1) := dk_6 (dk_at dksL_law_30 11 rfl rfl)
theorem dL_law_815 : decode cL_law 815 = .ok (.iadd, 1) := dk_96 (dk_at dksL_law_30 12 rfl rfl)
theorem dL_law_816 : decode cL_law 816 = .ok (.iaload, 1) := dk_46 (dk_at dksL_law_30 13 rfl rfl)
theorem dL_law_817 : decode cL_law 817 = .ok (.invokevirtual 147, 3) := dk_182 0 147 (dk_at dksL_law_30 14 rfl rfl)
theorem dL_law_820 : decode cL_law 820 = .ok (.istore 7, 2) := dk_54 7 (dk_at dksL_law_30 17 rfl rfl)
theorem dL_law_822 : decode cL_law 822 = .ok (.aload_n 2, 1) := dk_44 (dk_at dksL_law_30 19 rfl rfl)
theorem dL_law_823 : decode cL_law 823 = .ok (.invokevirtual 111, 3) := dk_182 0 111 (dk_at dksL_law_30 20 rfl rfl)
theorem dL_law_826 : decode cL_law 826 = .ok (.iload 6, 2) := dk_21 6 (dk_at dksL_law_31 0 rfl rfl)
theorem dL_law_828 : decode cL_law 828 = .ok (.if_icmp .eq 5, 3) := dk_159 0 5 (dk_at dksL_law_31 2 rfl rfl)
theorem dL_law_831 : decode cL_law 831 = .ok (.iconst 0, 1) := dk_3 (dk_at dksL_law_31 5 rfl rfl)
theorem dL_law_832 : decode cL_law 832 = .ok (.ireturn, 1) := dk_172 (dk_at dksL_law_31 6 rfl rfl)
theorem dL_law_833 : decode cL_law 833 = .ok (.iload 6, 2) := dk_21 6 (dk_at dksL_law_31 7 rfl rfl)
theorem dL_law_835 : decode cL_law 835 = .ok (.ifCond .ne 15, 3) := dk_154 0 15 (dk_at dksL_law_31 9 rfl rfl)
theorem dL_law_838 : decode cL_law 838 = .ok (.aload_n 3, 1) := dk_45 (dk_at dksL_law_31 12 rfl rfl)
theorem dL_law_839 : decode cL_law 839 = .ok (.iconst 0, 1) := dk_3 (dk_at dksL_law_31 13 rfl rfl)
theorem dL_law_840 : decode cL_law 840 = .ok (.laload, 1) := dk_47 (dk_at dksL_law_31 14 rfl rfl)
theorem dL_law_841 : decode cL_law 841 = .ok (.iload 7, 2) := dk_21 7 (dk_at dksL_law_31 15 rfl rfl)
theorem dL_law_843 : decode cL_law 843 = .ok (.i2l, 1) := dk_133 (dk_at dksL_law_31 17 rfl rfl)
theorem dL_law_844 : decode cL_law 844 = .ok (.lcmp, 1) := dk_148 (dk_at dksL_law_31 18 rfl rfl)
theorem dL_law_845 : decode cL_law 845 = .ok (.ifCond .eq 5, 3) := dk_153 0 5 (dk_at dksL_law_31 19 rfl rfl)
theorem dL_law_848 : decode cL_law 848 = .ok (.iconst 0, 1) := dk_3 (dk_at dksL_law_31 22 rfl rfl)
theorem dL_law_849 : decode cL_law 849 = .ok (.ireturn, 1) := dk_172 (dk_at dksL_law_31 23 rfl rfl)
theorem dL_law_850 : decode cL_law 850 = .ok (.goto 862, 3) := dk_167 3 94 (dk_at dksL_law_32 0 rfl rfl)
theorem dL_law_853 : decode cL_law 853 = .ok (.aload_n 1, 1) := dk_43 (dk_at dksL_law_32 3 rfl rfl)
theorem dL_law_854 : decode cL_law 854 = .ok (.aload_n 0, 1) := dk_42 (dk_at dksL_law_32 4 rfl rfl)
theorem dL_law_855 : decode cL_law 855 = .ok (.iload 5, 2) := dk_21 5 (dk_at dksL_law_32 5 rfl rfl)
theorem dL_law_857 : decode cL_law 857 = .ok (.iconst 1, 1) := dk_4 (dk_at dksL_law_32 7 rfl rfl)
theorem dL_law_858 : decode cL_law 858 = .ok (.iadd, 1) := dk_96 (dk_at dksL_law_32 8 rfl rfl)
theorem dL_law_859 : decode cL_law 859 = .ok (.iaload, 1) := dk_46 (dk_at dksL_law_32 9 rfl rfl)
theorem dL_law_860 : decode cL_law 860 = .ok (.aload_n 0, 1) := dk_42 (dk_at dksL_law_32 10 rfl rfl)
theorem dL_law_861 : decode cL_law 861 = .ok (.iload 5, 2) := dk_21 5 (dk_at dksL_law_32 11 rfl rfl)
theorem dL_law_863 : decode cL_law 863 = .ok (.iconst 2, 1) := dk_5 (dk_at dksL_law_32 13 rfl rfl)
theorem dL_law_864 : decode cL_law 864 = .ok (.iadd, 1) := dk_96 (dk_at dksL_law_32 14 rfl rfl)
theorem dL_law_865 : decode cL_law 865 = .ok (.iaload, 1) := dk_46 (dk_at dksL_law_32 15 rfl rfl)
theorem dL_law_866 : decode cL_law 866 = .ok (.aload_n 3, 1) := dk_45 (dk_at dksL_law_32 16 rfl rfl)
theorem dL_law_867 : decode cL_law 867 = .ok (.invokestatic 148, 3) := dk_184 0 148 (dk_at dksL_law_32 17 rfl rfl)
theorem dL_law_870 : decode cL_law 870 = .ok (.istore 6, 2) := dk_54 6 (dk_at dksL_law_32 20 rfl rfl)
theorem dL_law_872 : decode cL_law 872 = .ok (.aload_n 2, 1) := dk_44 (dk_at dksL_law_32 22 rfl rfl)
theorem dL_law_873 : decode cL_law 873 = .ok (.aload_n 0, 1) := dk_42 (dk_at dksL_law_32 23 rfl rfl)
theorem dL_law_874 : decode cL_law 874 = .ok (.iload 5, 2) := dk_21 5 (dk_at dksL_law_33 0 rfl rfl)
theorem dL_law_876 : decode cL_law 876 = .ok (.iconst 1, 1) := dk_4 (dk_at dksL_law_33 2 rfl rfl)
theorem dL_law_877 : decode cL_law 877 = .ok (.iadd, 1) := dk_96 (dk_at dksL_law_33 3 rfl rfl)
theorem dL_law_878 : decode cL_law 878 = .ok (.iaload, 1) := dk_46 (dk_at dksL_law_33 4 rfl rfl)
theorem dL_law_879 : decode cL_law 879 = .ok (.aload_n 0, 1) := dk_42 (dk_at dksL_law_33 5 rfl rfl)
theorem dL_law_880 : decode cL_law 880 = .ok (.iload 5, 2) := dk_21 5 (dk_at dksL_law_33 6 rfl rfl)
theorem dL_law_882 : decode cL_law 882 = .ok (.iconst 2, 1) := dk_5 (dk_at dksL_law_33 8 rfl rfl)
theorem dL_law_883 : decode cL_law 883 = .ok (.iadd, 1) := dk_96 (dk_at dksL_law_33 9 rfl rfl)
theorem dL_law_884 : decode cL_law 884 = .ok (.iaload, 1) := dk_46 (dk_at dksL_law_33 10 rfl rfl)
theorem dL_law_885 : decode cL_law 885 = .ok (.invokevirtual 150, 3) := dk_182 0 150 (dk_at dksL_law_33 11 rfl rfl)
theorem dL_law_888 : decode cL_law 888 = .ok (.istore 7, 2) := dk_54 7 (dk_at dksL_law_33 14 rfl rfl)
theorem dL_law_890 : decode cL_law 890 = .ok (.aload_n 2, 1) := dk_44 (dk_at dksL_law_33 16 rfl rfl)
theorem dL_law_891 : decode cL_law 891 = .ok (.invokevirtual 111, 3) := dk_182 0 111 (dk_at dksL_law_33 17 rfl rfl)
theorem dL_law_894 : decode cL_law 894 = .ok (.iload 6, 2) := dk_21 6 (dk_at dksL_law_33 20 rfl rfl)
theorem dL_law_896 : decode cL_law 896 = .ok (.if_icmp .eq 5, 3) := dk_159 0 5 (dk_at dksL_law_34 0 rfl rfl)
theorem dL_law_899 : decode cL_law 899 = .ok (.iconst 0, 1) := dk_3 (dk_at dksL_law_34 3 rfl rfl)
theorem dL_law_900 : decode cL_law 900 = .ok (.ireturn, 1) := dk_172 (dk_at dksL_law_34 4 rfl rfl)
theorem dL_law_901 : decode cL_law 901 = .ok (.iload 6, 2) := dk_21 6 (dk_at dksL_law_34 5 rfl rfl)
theorem dL_law_903 : decode cL_law 903 = .ok (.ifCond .ne 15, 3) := dk_154 0 15 (dk_at dksL_law_34 7 rfl rfl)
theorem dL_law_906 : decode cL_law 906 = .ok (.aload_n 3, 1) := dk_45 (dk_at dksL_law_34 10 rfl rfl)
theorem dL_law_907 : decode cL_law 907 = .ok (.iconst 0, 1) := dk_3 (dk_at dksL_law_34 11 rfl rfl)
theorem dL_law_908 : decode cL_law 908 = .ok (.laload, 1) := dk_47 (dk_at dksL_law_34 12 rfl rfl)
theorem dL_law_909 : decode cL_law 909 = .ok (.iload 7, 2) := dk_21 7 (dk_at dksL_law_34 13 rfl rfl)
theorem dL_law_911 : decode cL_law 911 = .ok (.i2l, 1) := dk_133 (dk_at dksL_law_34 15 rfl rfl)
theorem dL_law_912 : decode cL_law 912 = .ok (.lcmp, 1) := dk_148 (dk_at dksL_law_34 16 rfl rfl)
theorem dL_law_913 : decode cL_law 913 = .ok (.ifCond .eq 5, 3) := dk_153 0 5 (dk_at dksL_law_34 17 rfl rfl)
theorem dL_law_916 : decode cL_law 916 = .ok (.iconst 0, 1) := dk_3 (dk_at dksL_law_34 20 rfl rfl)
theorem dL_law_917 : decode cL_law 917 = .ok (.ireturn, 1) := dk_172 (dk_at dksL_law_34 21 rfl rfl)
theorem dL_law_918 : decode cL_law 918 = .ok (.goto 794, 3) := dk_167 3 26 (dk_at dksL_law_35 0 rfl rfl)
theorem dL_law_921 : decode cL_law 921 = .ok (.aload_n 1, 1) := dk_43 (dk_at dksL_law_35 3 rfl rfl)
theorem dL_law_922 : decode cL_law 922 = .ok (.aload_n 0, 1) := dk_42 (dk_at dksL_law_35 4 rfl rfl)
theorem dL_law_923 : decode cL_law 923 = .ok (.iload 5, 2) := dk_21 5 (dk_at dksL_law_35 5 rfl rfl)
theorem dL_law_925 : decode cL_law 925 = .ok (.iconst 1, 1) := dk_4 (dk_at dksL_law_35 7 rfl rfl)
theorem dL_law_926 : decode cL_law 926 = .ok (.iadd, 1) := dk_96 (dk_at dksL_law_35 8 rfl rfl)
theorem dL_law_927 : decode cL_law 927 = .ok (.iaload, 1) := dk_46 (dk_at dksL_law_35 9 rfl rfl)
theorem dL_law_928 : decode cL_law 928 = .ok (.aload_n 3, 1) := dk_45 (dk_at dksL_law_35 10 rfl rfl)
theorem dL_law_929 : decode cL_law 929 = .ok (.invokestatic 151, 3) := dk_184 0 151 (dk_at dksL_law_35 11 rfl rfl)
theorem dL_law_932 : decode cL_law 932 = .ok (.istore 6, 2) := dk_54 6 (dk_at dksL_law_35 14 rfl rfl)
theorem dL_law_934 : decode cL_law 934 = .ok (.aload_n 2, 1) := dk_44 (dk_at dksL_law_35 16 rfl rfl)
theorem dL_law_935 : decode cL_law 935 = .ok (.aload_n 0, 1) := dk_42 (dk_at dksL_law_35 17 rfl rfl)
theorem dL_law_936 : decode cL_law 936 = .ok (.iload 5, 2) := dk_21 5 (dk_at dksL_law_35 18 rfl rfl)
theorem dL_law_938 : decode cL_law 938 = .ok (.iconst 1, 1) := dk_4 (dk_at dksL_law_35 20 rfl rfl)
theorem dL_law_939 : decode cL_law 939 = .ok (.iadd, 1) := dk_96 (dk_at dksL_law_35 21 rfl rfl)
theorem dL_law_940 : decode cL_law 940 = .ok (.iaload, 1) := dk_46 (dk_at dksL_law_35 22 rfl rfl)
theorem dL_law_941 : decode cL_law 941 = .ok (.invokevirtual 153, 3) := dk_182 0 153 (dk_at dksL_law_36 0 rfl rfl)
theorem dL_law_944 : decode cL_law 944 = .ok (.istore 7, 2) := dk_54 7 (dk_at dksL_law_36 3 rfl rfl)
theorem dL_law_946 : decode cL_law 946 = .ok (.aload_n 2, 1) := dk_44 (dk_at dksL_law_36 5 rfl rfl)
theorem dL_law_947 : decode cL_law 947 = .ok (.invokevirtual 111, 3) := dk_182 0 111 (dk_at dksL_law_36 6 rfl rfl)
theorem dL_law_950 : decode cL_law 950 = .ok (.iload 6, 2) := dk_21 6 (dk_at dksL_law_36 9 rfl rfl)
theorem dL_law_952 : decode cL_law 952 = .ok (.if_icmp .eq 5, 3) := dk_159 0 5 (dk_at dksL_law_36 11 rfl rfl)
theorem dL_law_955 : decode cL_law 955 = .ok (.iconst 0, 1) := dk_3 (dk_at dksL_law_36 14 rfl rfl)
theorem dL_law_956 : decode cL_law 956 = .ok (.ireturn, 1) := dk_172 (dk_at dksL_law_36 15 rfl rfl)
theorem dL_law_957 : decode cL_law 957 = .ok (.iload 6, 2) := dk_21 6 (dk_at dksL_law_36 16 rfl rfl)
theorem dL_law_959 : decode cL_law 959 = .ok (.ifCond .ne 15, 3) := dk_154 0 15 (dk_at dksL_law_36 18 rfl rfl)
theorem dL_law_962 : decode cL_law 962 = .ok (.aload_n 3, 1) := dk_45 (dk_at dksL_law_36 21 rfl rfl)
theorem dL_law_963 : decode cL_law 963 = .ok (.iconst 0, 1) := dk_3 (dk_at dksL_law_36 22 rfl rfl)
theorem dL_law_964 : decode cL_law 964 = .ok (.laload, 1) := dk_47 (dk_at dksL_law_36 23 rfl rfl)
theorem dL_law_965 : decode cL_law 965 = .ok (.iload 7, 2) := dk_21 7 (dk_at dksL_law_37 0 rfl rfl)
theorem dL_law_967 : decode cL_law 967 = .ok (.i2l, 1) := dk_133 (dk_at dksL_law_37 2 rfl rfl)
theorem dL_law_968 : decode cL_law 968 = .ok (.lcmp, 1) := dk_148 (dk_at dksL_law_37 3 rfl rfl)
theorem dL_law_969 : decode cL_law 969 = .ok (.ifCond .eq 5, 3) := dk_153 0 5 (dk_at dksL_law_37 4 rfl rfl)
theorem dL_law_972 : decode cL_law 972 = .ok (.iconst 0, 1) := dk_3 (dk_at dksL_law_37 7 rfl rfl)
theorem dL_law_973 : decode cL_law 973 = .ok (.ireturn, 1) := dk_172 (dk_at dksL_law_37 8 rfl rfl)
theorem dL_law_974 : decode cL_law 974 = .ok (.goto 738, 3) := dk_167 2 226 (dk_at dksL_law_37 9 rfl rfl)
theorem dL_law_977 : decode cL_law 977 = .ok (.aload_n 1, 1) := dk_43 (dk_at dksL_law_37 12 rfl rfl)
theorem dL_law_978 : decode cL_law 978 = .ok (.aload_n 0, 1) := dk_42 (dk_at dksL_law_37 13 rfl rfl)
theorem dL_law_979 : decode cL_law 979 = .ok (.iload 5, 2) := dk_21 5 (dk_at dksL_law_37 14 rfl rfl)
theorem dL_law_981 : decode cL_law 981 = .ok (.iconst 1, 1) := dk_4 (dk_at dksL_law_37 16 rfl rfl)
theorem dL_law_982 : decode cL_law 982 = .ok (.iadd, 1) := dk_96 (dk_at dksL_law_37 17 rfl rfl)
theorem dL_law_983 : decode cL_law 983 = .ok (.iaload, 1) := dk_46 (dk_at dksL_law_37 18 rfl rfl)
theorem dL_law_984 : decode cL_law 984 = .ok (.aload_n 3, 1) := dk_45 (dk_at dksL_law_37 19 rfl rfl)
theorem dL_law_985 : decode cL_law 985 = .ok (.invokestatic 154, 3) := dk_184 0 154 (dk_at dksL_law_37 20 rfl rfl)
theorem dL_law_988 : decode cL_law 988 = .ok (.istore 6, 2) := dk_54 6 (dk_at dksL_law_38 0 rfl rfl)
theorem dL_law_990 : decode cL_law 990 = .ok (.aload_n 2, 1) := dk_44 (dk_at dksL_law_38 2 rfl rfl)
theorem dL_law_991 : decode cL_law 991 = .ok (.aload_n 0, 1) := dk_42 (dk_at dksL_law_38 3 rfl rfl)
theorem dL_law_992 : decode cL_law 992 = .ok (.iload 5, 2) := dk_21 5 (dk_at dksL_law_38 4 rfl rfl)
theorem dL_law_994 : decode cL_law 994 = .ok (.iconst 1, 1) := dk_4 (dk_at dksL_law_38 6 rfl rfl)
theorem dL_law_995 : decode cL_law 995 = .ok (.iadd, 1) := dk_96 (dk_at dksL_law_38 7 rfl rfl)
theorem dL_law_996 : decode cL_law 996 = .ok (.iaload, 1) := dk_46 (dk_at dksL_law_38 8 rfl rfl)
theorem dL_law_997 : decode cL_law 997 = .ok (.invokevirtual 156, 3) := dk_182 0 156 (dk_at dksL_law_38 9 rfl rfl)
theorem dL_law_1000 : decode cL_law 1000 = .ok (.istore 7, 2) := dk_54 7 (dk_at dksL_law_38 12 rfl rfl)
theorem dL_law_1002 : decode cL_law 1002 = .ok (.aload_n 2, 1) := dk_44 (dk_at dksL_law_38 14 rfl rfl)
theorem dL_law_1003 : decode cL_law 1003 = .ok (.invokevirtual 111, 3) := dk_182 0 111 (dk_at dksL_law_38 15 rfl rfl)
theorem dL_law_1006 : decode cL_law 1006 = .ok (.iload 6, 2) := dk_21 6 (dk_at dksL_law_38 18 rfl rfl)
theorem dL_law_1008 : decode cL_law 1008 = .ok (.if_icmp .eq 5, 3) := dk_159 0 5 (dk_at dksL_law_38 20 rfl rfl)
theorem dL_law_1011 : decode cL_law 1011 = .ok (.iconst 0, 1) := dk_3 (dk_at dksL_law_38 23 rfl rfl)
theorem dL_law_1012 : decode cL_law 1012 = .ok (.ireturn, 1) := dk_172 (dk_at dksL_law_39 0 rfl rfl)
theorem dL_law_1013 : decode cL_law 1013 = .ok (.iload 6, 2) := dk_21 6 (dk_at dksL_law_39 1 rfl rfl)
theorem dL_law_1015 : decode cL_law 1015 = .ok (.ifCond .ne 15, 3) := dk_154 0 15 (dk_at dksL_law_39 3 rfl rfl)
theorem dL_law_1018 : decode cL_law 1018 = .ok (.aload_n 3, 1) := dk_45 (dk_at dksL_law_39 6 rfl rfl)
theorem dL_law_1019 : decode cL_law 1019 = .ok (.iconst 0, 1) := dk_3 (dk_at dksL_law_39 7 rfl rfl)
theorem dL_law_1020 : decode cL_law 1020 = .ok (.laload, 1) := dk_47 (dk_at dksL_law_39 8 rfl rfl)
theorem dL_law_1021 : decode cL_law 1021 = .ok (.iload 7, 2) := dk_21 7 (dk_at dksL_law_39 9 rfl rfl)
theorem dL_law_1023 : decode cL_law 1023 = .ok (.i2l, 1) := dk_133 (dk_at dksL_law_39 11 rfl rfl)
theorem dL_law_1024 : decode cL_law 1024 = .ok (.lcmp, 1) := dk_148 (dk_at dksL_law_39 12 rfl rfl)
theorem dL_law_1025 : decode cL_law 1025 = .ok (.ifCond .eq 5, 3) := dk_153 0 5 (dk_at dksL_law_39 13 rfl rfl)
theorem dL_law_1028 : decode cL_law 1028 = .ok (.iconst 0, 1) := dk_3 (dk_at dksL_law_39 16 rfl rfl)
theorem dL_law_1029 : decode cL_law 1029 = .ok (.ireturn, 1) := dk_172 (dk_at dksL_law_39 17 rfl rfl)
theorem dL_law_1030 : decode cL_law 1030 = .ok (.goto 682, 3) := dk_167 2 170 (dk_at dksL_law_39 18 rfl rfl)
theorem dL_law_1033 : decode cL_law 1033 = .ok (.aload_n 1, 1) := dk_43 (dk_at dksL_law_39 21 rfl rfl)
theorem dL_law_1034 : decode cL_law 1034 = .ok (.aload_n 0, 1) := dk_42 (dk_at dksL_law_39 22 rfl rfl)
theorem dL_law_1035 : decode cL_law 1035 = .ok (.iload 5, 2) := dk_21 5 (dk_at dksL_law_40 0 rfl rfl)
theorem dL_law_1037 : decode cL_law 1037 = .ok (.iconst 1, 1) := dk_4 (dk_at dksL_law_40 2 rfl rfl)
theorem dL_law_1038 : decode cL_law 1038 = .ok (.iadd, 1) := dk_96 (dk_at dksL_law_40 3 rfl rfl)
theorem dL_law_1039 : decode cL_law 1039 = .ok (.iaload, 1) := dk_46 (dk_at dksL_law_40 4 rfl rfl)
theorem dL_law_1040 : decode cL_law 1040 = .ok (.aload_n 0, 1) := dk_42 (dk_at dksL_law_40 5 rfl rfl)
theorem dL_law_1041 : decode cL_law 1041 = .ok (.iload 5, 2) := dk_21 5 (dk_at dksL_law_40 6 rfl rfl)
theorem dL_law_1043 : decode cL_law 1043 = .ok (.iconst 2, 1) := dk_5 (dk_at dksL_law_40 8 rfl rfl)
theorem dL_law_1044 : decode cL_law 1044 = .ok (.iadd, 1) := dk_96 (dk_at dksL_law_40 9 rfl rfl)
theorem dL_law_1045 : decode cL_law 1045 = .ok (.iaload, 1) := dk_46 (dk_at dksL_law_40 10 rfl rfl)
theorem dL_law_1046 : decode cL_law 1046 = .ok (.aload_n 3, 1) := dk_45 (dk_at dksL_law_40 11 rfl rfl)
theorem dL_law_1047 : decode cL_law 1047 = .ok (.invokestatic 157, 3) := dk_184 0 157 (dk_at dksL_law_40 12 rfl rfl)
theorem dL_law_1050 : decode cL_law 1050 = .ok (.istore 6, 2) := dk_54 6 (dk_at dksL_law_40 15 rfl rfl)
theorem dL_law_1052 : decode cL_law 1052 = .ok (.aload_n 2, 1) := dk_44 (dk_at dksL_law_40 17 rfl rfl)
theorem dL_law_1053 : decode cL_law 1053 = .ok (.aload_n 0, 1) := dk_42 (dk_at dksL_law_40 18 rfl rfl)
theorem dL_law_1054 : decode cL_law 1054 = .ok (.iload 5, 2) := dk_21 5 (dk_at dksL_law_40 19 rfl rfl)
theorem dL_law_1056 : decode cL_law 1056 = .ok (.iconst 1, 1) := dk_4 (dk_at dksL_law_40 21 rfl rfl)
theorem dL_law_1057 : decode cL_law 1057 = .ok (.iadd, 1) := dk_96 (dk_at dksL_law_40 22 rfl rfl)
theorem dL_law_1058 : decode cL_law 1058 = .ok (.iaload, 1) := dk_46 (dk_at dksL_law_40 23 rfl rfl)
theorem dL_law_1059 : decode cL_law 1059 = .ok (.aload_n 0, 1) := dk_42 (dk_at dksL_law_41 0 rfl rfl)
theorem dL_law_1060 : decode cL_law 1060 = .ok (.iload 5, 2) := dk_21 5 (dk_at dksL_law_41 1 rfl rfl)
theorem dL_law_1062 : decode cL_law 1062 = .ok (.iconst 2, 1) := dk_5 (dk_at dksL_law_41 3 rfl rfl)
theorem dL_law_1063 : decode cL_law 1063 = .ok (.iadd, 1) := dk_96 (dk_at dksL_law_41 4 rfl rfl)
theorem dL_law_1064 : decode cL_law 1064 = .ok (.iaload, 1) := dk_46 (dk_at dksL_law_41 5 rfl rfl)
theorem dL_law_1065 : decode cL_law 1065 = .ok (.invokevirtual 159, 3) := dk_182 0 159 (dk_at dksL_law_41 6 rfl rfl)
theorem dL_law_1068 : decode cL_law 1068 = .ok (.istore 7, 2) := dk_54 7 (dk_at dksL_law_41 9 rfl rfl)
theorem dL_law_1070 : decode cL_law 1070 = .ok (.aload_n 2, 1) := dk_44 (dk_at dksL_law_41 11 rfl rfl)
theorem dL_law_1071 : decode cL_law 1071 = .ok (.invokevirtual 111, 3) := dk_182 0 111 (dk_at dksL_law_41 12 rfl rfl)
theorem dL_law_1074 : decode cL_law 1074 = .ok (.iload 6, 2) := dk_21 6 (dk_at dksL_law_41 15 rfl rfl)
theorem dL_law_1076 : decode cL_law 1076 = .ok (.if_icmp .eq 5, 3) := dk_159 0 5 (dk_at dksL_law_41 17 rfl rfl)
theorem dL_law_1079 : decode cL_law 1079 = .ok (.iconst 0, 1) := dk_3 (dk_at dksL_law_41 20 rfl rfl)
theorem dL_law_1080 : decode cL_law 1080 = .ok (.ireturn, 1) := dk_172 (dk_at dksL_law_41 21 rfl rfl)
theorem dL_law_1081 : decode cL_law 1081 = .ok (.iload 6, 2) := dk_21 6 (dk_at dksL_law_41 22 rfl rfl)
theorem dL_law_1083 : decode cL_law 1083 = .ok (.ifCond .ne 15, 3) := dk_154 0 15 (dk_at dksL_law_42 0 rfl rfl)
theorem dL_law_1086 : decode cL_law 1086 = .ok (.aload_n 3, 1) := dk_45 (dk_at dksL_law_42 3 rfl rfl)
theorem dL_law_1087 : decode cL_law 1087 = .ok (.iconst 0, 1) := dk_3 (dk_at dksL_law_42 4 rfl rfl)
theorem dL_law_1088 : decode cL_law 1088 = .ok (.laload, 1) := dk_47 (dk_at dksL_law_42 5 rfl rfl)
theorem dL_law_1089 : decode cL_law 1089 = .ok (.iload 7, 2) := dk_21 7 (dk_at dksL_law_42 6 rfl rfl)
theorem dL_law_1091 : decode cL_law 1091 = .ok (.i2l, 1) := dk_133 (dk_at dksL_law_42 8 rfl rfl)
theorem dL_law_1092 : decode cL_law 1092 = .ok (.lcmp, 1) := dk_148 (dk_at dksL_law_42 9 rfl rfl)
theorem dL_law_1093 : decode cL_law 1093 = .ok (.ifCond .eq 5, 3) := dk_153 0 5 (dk_at dksL_law_42 10 rfl rfl)
theorem dL_law_1096 : decode cL_law 1096 = .ok (.iconst 0, 1) := dk_3 (dk_at dksL_law_42 13 rfl rfl)
theorem dL_law_1097 : decode cL_law 1097 = .ok (.ireturn, 1) := dk_172 (dk_at dksL_law_42 14 rfl rfl)
theorem dL_law_1098 : decode cL_law 1098 = .ok (.goto 614, 3) := dk_167 2 102 (dk_at dksL_law_42 15 rfl rfl)
theorem dL_law_1101 : decode cL_law 1101 = .ok (.aload_n 1, 1) := dk_43 (dk_at dksL_law_42 18 rfl rfl)
theorem dL_law_1102 : decode cL_law 1102 = .ok (.invokevirtual 160, 3) := dk_182 0 160 (dk_at dksL_law_42 19 rfl rfl)
theorem dL_law_1105 : decode cL_law 1105 = .ok (.aload_n 2, 1) := dk_44 (dk_at dksL_law_42 22 rfl rfl)
theorem dL_law_1106 : decode cL_law 1106 = .ok (.invokevirtual 163, 3) := dk_182 0 163 (dk_at dksL_law_43 0 rfl rfl)
theorem dL_law_1109 : decode cL_law 1109 = .ok (.if_icmp .eq 603, 3) := dk_159 2 91 (dk_at dksL_law_43 3 rfl rfl)
theorem dL_law_1112 : decode cL_law 1112 = .ok (.iconst 0, 1) := dk_3 (dk_at dksL_law_43 6 rfl rfl)
theorem dL_law_1113 : decode cL_law 1113 = .ok (.ireturn, 1) := dk_172 (dk_at dksL_law_43 7 rfl rfl)
theorem dL_law_1114 : decode cL_law 1114 = .ok (.aload_n 1, 1) := dk_43 (dk_at dksL_law_43 8 rfl rfl)
theorem dL_law_1115 : decode cL_law 1115 = .ok (.aload_n 0, 1) := dk_42 (dk_at dksL_law_43 9 rfl rfl)
theorem dL_law_1116 : decode cL_law 1116 = .ok (.iload 5, 2) := dk_21 5 (dk_at dksL_law_43 10 rfl rfl)
theorem dL_law_1118 : decode cL_law 1118 = .ok (.iconst 1, 1) := dk_4 (dk_at dksL_law_43 12 rfl rfl)
theorem dL_law_1119 : decode cL_law 1119 = .ok (.iadd, 1) := dk_96 (dk_at dksL_law_43 13 rfl rfl)
theorem dL_law_1120 : decode cL_law 1120 = .ok (.iaload, 1) := dk_46 (dk_at dksL_law_43 14 rfl rfl)
theorem dL_law_1121 : decode cL_law 1121 = .ok (.aload_n 3, 1) := dk_45 (dk_at dksL_law_43 15 rfl rfl)
theorem dL_law_1122 : decode cL_law 1122 = .ok (.invokestatic 164, 3) := dk_184 0 164 (dk_at dksL_law_43 16 rfl rfl)
theorem dL_law_1125 : decode cL_law 1125 = .ok (.istore 6, 2) := dk_54 6 (dk_at dksL_law_43 19 rfl rfl)
theorem dL_law_1127 : decode cL_law 1127 = .ok (.aload_n 2, 1) := dk_44 (dk_at dksL_law_43 21 rfl rfl)
theorem dL_law_1128 : decode cL_law 1128 = .ok (.aload_n 0, 1) := dk_42 (dk_at dksL_law_43 22 rfl rfl)
theorem dL_law_1129 : decode cL_law 1129 = .ok (.iload 5, 2) := dk_21 5 (dk_at dksL_law_44 0 rfl rfl)
theorem dL_law_1131 : decode cL_law 1131 = .ok (.iconst 1, 1) := dk_4 (dk_at dksL_law_44 2 rfl rfl)
theorem dL_law_1132 : decode cL_law 1132 = .ok (.iadd, 1) := dk_96 (dk_at dksL_law_44 3 rfl rfl)
theorem dL_law_1133 : decode cL_law 1133 = .ok (.iaload, 1) := dk_46 (dk_at dksL_law_44 4 rfl rfl)
theorem dL_law_1134 : decode cL_law 1134 = .ok (.invokevirtual 166, 3) := dk_182 0 166 (dk_at dksL_law_44 5 rfl rfl)
theorem dL_law_1137 : decode cL_law 1137 = .ok (.istore 7, 2) := dk_54 7 (dk_at dksL_law_44 8 rfl rfl)
theorem dL_law_1139 : decode cL_law 1139 = .ok (.aload_n 2, 1) := dk_44 (dk_at dksL_law_44 10 rfl rfl)
theorem dL_law_1140 : decode cL_law 1140 = .ok (.invokevirtual 111, 3) := dk_182 0 111 (dk_at dksL_law_44 11 rfl rfl)
theorem dL_law_1143 : decode cL_law 1143 = .ok (.iload 6, 2) := dk_21 6 (dk_at dksL_law_44 14 rfl rfl)
theorem dL_law_1145 : decode cL_law 1145 = .ok (.if_icmp .eq 5, 3) := dk_159 0 5 (dk_at dksL_law_44 16 rfl rfl)
theorem dL_law_1148 : decode cL_law 1148 = .ok (.iconst 0, 1) := dk_3 (dk_at dksL_law_44 19 rfl rfl)
theorem dL_law_1149 : decode cL_law 1149 = .ok (.ireturn, 1) := dk_172 (dk_at dksL_law_44 20 rfl rfl)
theorem dL_law_1150 : decode cL_law 1150 = .ok (.iload 6, 2) := dk_21 6 (dk_at dksL_law_44 21 rfl rfl)
theorem dL_law_1152 : decode cL_law 1152 = .ok (.ifCond .ne 15, 3) := dk_154 0 15 (dk_at dksL_law_45 0 rfl rfl)
theorem dL_law_1155 : decode cL_law 1155 = .ok (.aload_n 3, 1) := dk_45 (dk_at dksL_law_45 3 rfl rfl)
theorem dL_law_1156 : decode cL_law 1156 = .ok (.iconst 0, 1) := dk_3 (dk_at dksL_law_45 4 rfl rfl)
theorem dL_law_1157 : decode cL_law 1157 = .ok (.laload, 1) := dk_47 (dk_at dksL_law_45 5 rfl rfl)
theorem dL_law_1158 : decode cL_law 1158 = .ok (.iload 7, 2) := dk_21 7 (dk_at dksL_law_45 6 rfl rfl)
theorem dL_law_1160 : decode cL_law 1160 = .ok (.i2l, 1) := dk_133 (dk_at dksL_law_45 8 rfl rfl)
theorem dL_law_1161 : decode cL_law 1161 = .ok (.lcmp, 1) := dk_148 (dk_at dksL_law_45 9 rfl rfl)
theorem dL_law_1162 : decode cL_law 1162 = .ok (.ifCond .eq 5, 3) := dk_153 0 5 (dk_at dksL_law_45 10 rfl rfl)
theorem dL_law_1165 : decode cL_law 1165 = .ok (.iconst 0, 1) := dk_3 (dk_at dksL_law_45 13 rfl rfl)
theorem dL_law_1166 : decode cL_law 1166 = .ok (.ireturn, 1) := dk_172 (dk_at dksL_law_45 14 rfl rfl)
theorem dL_law_1167 : decode cL_law 1167 = .ok (.goto 545, 3) := dk_167 2 33 (dk_at dksL_law_45 15 rfl rfl)
theorem dL_law_1170 : decode cL_law 1170 = .ok (.aload_n 1, 1) := dk_43 (dk_at dksL_law_45 18 rfl rfl)
theorem dL_law_1171 : decode cL_law 1171 = .ok (.aload_n 0, 1) := dk_42 (dk_at dksL_law_45 19 rfl rfl)
theorem dL_law_1172 : decode cL_law 1172 = .ok (.iload 5, 2) := dk_21 5 (dk_at dksL_law_45 20 rfl rfl)
theorem dL_law_1174 : decode cL_law 1174 = .ok (.iconst 1, 1) := dk_4 (dk_at dksL_law_45 22 rfl rfl)
theorem dL_law_1175 : decode cL_law 1175 = .ok (.iadd, 1) := dk_96 (dk_at dksL_law_45 23 rfl rfl)
theorem dL_law_1176 : decode cL_law 1176 = .ok (.iaload, 1) := dk_46 (dk_at dksL_law_46 0 rfl rfl)
theorem dL_law_1177 : decode cL_law 1177 = .ok (.aload_n 0, 1) := dk_42 (dk_at dksL_law_46 1 rfl rfl)
theorem dL_law_1178 : decode cL_law 1178 = .ok (.iload 5, 2) := dk_21 5 (dk_at dksL_law_46 2 rfl rfl)
theorem dL_law_1180 : decode cL_law 1180 = .ok (.iconst 2, 1) := dk_5 (dk_at dksL_law_46 4 rfl rfl)
theorem dL_law_1181 : decode cL_law 1181 = .ok (.iadd, 1) := dk_96 (dk_at dksL_law_46 5 rfl rfl)
theorem dL_law_1182 : decode cL_law 1182 = .ok (.iaload, 1) := dk_46 (dk_at dksL_law_46 6 rfl rfl)
theorem dL_law_1183 : decode cL_law 1183 = .ok (.aload_n 3, 1) := dk_45 (dk_at dksL_law_46 7 rfl rfl)
theorem dL_law_1184 : decode cL_law 1184 = .ok (.invokestatic 167, 3) := dk_184 0 167 (dk_at dksL_law_46 8 rfl rfl)
theorem dL_law_1187 : decode cL_law 1187 = .ok (.istore 6, 2) := dk_54 6 (dk_at dksL_law_46 11 rfl rfl)
theorem dL_law_1189 : decode cL_law 1189 = .ok (.aload_n 2, 1) := dk_44 (dk_at dksL_law_46 13 rfl rfl)
theorem dL_law_1190 : decode cL_law 1190 = .ok (.aload_n 0, 1) := dk_42 (dk_at dksL_law_46 14 rfl rfl)
theorem dL_law_1191 : decode cL_law 1191 = .ok (.iload 5, 2) := dk_21 5 (dk_at dksL_law_46 15 rfl rfl)
theorem dL_law_1193 : decode cL_law 1193 = .ok (.iconst 1, 1) := dk_4 (dk_at dksL_law_46 17 rfl rfl)
theorem dL_law_1194 : decode cL_law 1194 = .ok (.iadd, 1) := dk_96 (dk_at dksL_law_46 18 rfl rfl)
theorem dL_law_1195 : decode cL_law 1195 = .ok (.iaload, 1) := dk_46 (dk_at dksL_law_46 19 rfl rfl)
theorem dL_law_1196 : decode cL_law 1196 = .ok (.aload_n 0, 1) := dk_42 (dk_at dksL_law_46 20 rfl rfl)
theorem dL_law_1197 : decode cL_law 1197 = .ok (.iload 5, 2) := dk_21 5 (dk_at dksL_law_46 21 rfl rfl)
theorem dL_law_1199 : decode cL_law 1199 = .ok (.iconst 2, 1) := dk_5 (dk_at dksL_law_46 23 rfl rfl)
theorem dL_law_1200 : decode cL_law 1200 = .ok (.iadd, 1) := dk_96 (dk_at dksL_law_47 0 rfl rfl)
theorem dL_law_1201 : decode cL_law 1201 = .ok (.iaload, 1) := dk_46 (dk_at dksL_law_47 1 rfl rfl)
theorem dL_law_1202 : decode cL_law 1202 = .ok (.invokevirtual 169, 3) := dk_182 0 169 (dk_at dksL_law_47 2 rfl rfl)
theorem dL_law_1205 : decode cL_law 1205 = .ok (.istore 7, 2) := dk_54 7 (dk_at dksL_law_47 5 rfl rfl)
theorem dL_law_1207 : decode cL_law 1207 = .ok (.aload_n 2, 1) := dk_44 (dk_at dksL_law_47 7 rfl rfl)
theorem dL_law_1208 : decode cL_law 1208 = .ok (.invokevirtual 111, 3) := dk_182 0 111 (dk_at dksL_law_47 8 rfl rfl)
theorem dL_law_1211 : decode cL_law 1211 = .ok (.iload 6, 2) := dk_21 6 (dk_at dksL_law_47 11 rfl rfl)
theorem dL_law_1213 : decode cL_law 1213 = .ok (.if_icmp .eq 5, 3) := dk_159 0 5 (dk_at dksL_law_47 13 rfl rfl)
theorem dL_law_1216 : decode cL_law 1216 = .ok (.iconst 0, 1) := dk_3 (dk_at dksL_law_47 16 rfl rfl)
theorem dL_law_1217 : decode cL_law 1217 = .ok (.ireturn, 1) := dk_172 (dk_at dksL_law_47 17 rfl rfl)
theorem dL_law_1218 : decode cL_law 1218 = .ok (.iload 6, 2) := dk_21 6 (dk_at dksL_law_47 18 rfl rfl)
theorem dL_law_1220 : decode cL_law 1220 = .ok (.ifCond .ne 15, 3) := dk_154 0 15 (dk_at dksL_law_47 20 rfl rfl)
theorem dL_law_1223 : decode cL_law 1223 = .ok (.aload_n 3, 1) := dk_45 (dk_at dksL_law_47 23 rfl rfl)
theorem dL_law_1224 : decode cL_law 1224 = .ok (.iconst 0, 1) := dk_3 (dk_at dksL_law_48 0 rfl rfl)
theorem dL_law_1225 : decode cL_law 1225 = .ok (.laload, 1) := dk_47 (dk_at dksL_law_48 1 rfl rfl)
theorem dL_law_1226 : decode cL_law 1226 = .ok (.iload 7, 2) := dk_21 7 (dk_at dksL_law_48 2 rfl rfl)
theorem dL_law_1228 : decode cL_law 1228 = .ok (.i2l, 1) := dk_133 (dk_at dksL_law_48 4 rfl rfl)
theorem dL_law_1229 : decode cL_law 1229 = .ok (.lcmp, 1) := dk_148 (dk_at dksL_law_48 5 rfl rfl)
theorem dL_law_1230 : decode cL_law 1230 = .ok (.ifCond .eq 5, 3) := dk_153 0 5 (dk_at dksL_law_48 6 rfl rfl)
theorem dL_law_1233 : decode cL_law 1233 = .ok (.iconst 0, 1) := dk_3 (dk_at dksL_law_48 9 rfl rfl)
theorem dL_law_1234 : decode cL_law 1234 = .ok (.ireturn, 1) := dk_172 (dk_at dksL_law_48 10 rfl rfl)
theorem dL_law_1235 : decode cL_law 1235 = .ok (.goto 477, 3) := dk_167 1 221 (dk_at dksL_law_48 11 rfl rfl)
theorem dL_law_1238 : decode cL_law 1238 = .ok (.aload_n 1, 1) := dk_43 (dk_at dksL_law_48 14 rfl rfl)
theorem dL_law_1239 : decode cL_law 1239 = .ok (.aload_n 0, 1) := dk_42 (dk_at dksL_law_48 15 rfl rfl)
theorem dL_law_1240 : decode cL_law 1240 = .ok (.iload 5, 2) := dk_21 5 (dk_at dksL_law_48 16 rfl rfl)
theorem dL_law_1242 : decode cL_law 1242 = .ok (.iconst 1, 1) := dk_4 (dk_at dksL_law_48 18 rfl rfl)
theorem dL_law_1243 : decode cL_law 1243 = .ok (.iadd, 1) := dk_96 (dk_at dksL_law_48 19 rfl rfl)
theorem dL_law_1244 : decode cL_law 1244 = .ok (.iaload, 1) := dk_46 (dk_at dksL_law_48 20 rfl rfl)
theorem dL_law_1245 : decode cL_law 1245 = .ok (.aload_n 0, 1) := dk_42 (dk_at dksL_law_48 21 rfl rfl)
theorem dL_law_1246 : decode cL_law 1246 = .ok (.iload 5, 2) := dk_21 5 (dk_at dksL_law_48 22 rfl rfl)
theorem dL_law_1248 : decode cL_law 1248 = .ok (.iconst 2, 1) := dk_5 (dk_at dksL_law_49 0 rfl rfl)
theorem dL_law_1249 : decode cL_law 1249 = .ok (.iadd, 1) := dk_96 (dk_at dksL_law_49 1 rfl rfl)
theorem dL_law_1250 : decode cL_law 1250 = .ok (.iaload, 1) := dk_46 (dk_at dksL_law_49 2 rfl rfl)
theorem dL_law_1251 : decode cL_law 1251 = .ok (.aload_n 3, 1) := dk_45 (dk_at dksL_law_49 3 rfl rfl)
theorem dL_law_1252 : decode cL_law 1252 = .ok (.invokestatic 170, 3) := dk_184 0 170 (dk_at dksL_law_49 4 rfl rfl)
theorem dL_law_1255 : decode cL_law 1255 = .ok (.istore 6, 2) := dk_54 6 (dk_at dksL_law_49 7 rfl rfl)
theorem dL_law_1257 : decode cL_law 1257 = .ok (.aload_n 2, 1) := dk_44 (dk_at dksL_law_49 9 rfl rfl)
theorem dL_law_1258 : decode cL_law 1258 = .ok (.aload_n 0, 1) := dk_42 (dk_at dksL_law_49 10 rfl rfl)
theorem dL_law_1259 : decode cL_law 1259 = .ok (.iload 5, 2) := dk_21 5 (dk_at dksL_law_49 11 rfl rfl)
theorem dL_law_1261 : decode cL_law 1261 = .ok (.iconst 1, 1) := dk_4 (dk_at dksL_law_49 13 rfl rfl)
theorem dL_law_1262 : decode cL_law 1262 = .ok (.iadd, 1) := dk_96 (dk_at dksL_law_49 14 rfl rfl)
theorem dL_law_1263 : decode cL_law 1263 = .ok (.iaload, 1) := dk_46 (dk_at dksL_law_49 15 rfl rfl)
theorem dL_law_1264 : decode cL_law 1264 = .ok (.aload_n 0, 1) := dk_42 (dk_at dksL_law_49 16 rfl rfl)
theorem dL_law_1265 : decode cL_law 1265 = .ok (.iload 5, 2) := dk_21 5 (dk_at dksL_law_49 17 rfl rfl)
theorem dL_law_1267 : decode cL_law 1267 = .ok (.iconst 2, 1) := dk_5 (dk_at dksL_law_49 19 rfl rfl)
theorem dL_law_1268 : decode cL_law 1268 = .ok (.iadd, 1) := dk_96 (dk_at dksL_law_49 20 rfl rfl)
theorem dL_law_1269 : decode cL_law 1269 = .ok (.iaload, 1) := dk_46 (dk_at dksL_law_49 21 rfl rfl)
theorem dL_law_1270 : decode cL_law 1270 = .ok (.invokevirtual 172, 3) := dk_182 0 172 (dk_at dksL_law_50 0 rfl rfl)
theorem dL_law_1273 : decode cL_law 1273 = .ok (.istore 7, 2) := dk_54 7 (dk_at dksL_law_50 3 rfl rfl)
theorem dL_law_1275 : decode cL_law 1275 = .ok (.aload_n 2, 1) := dk_44 (dk_at dksL_law_50 5 rfl rfl)
theorem dL_law_1276 : decode cL_law 1276 = .ok (.invokevirtual 111, 3) := dk_182 0 111 (dk_at dksL_law_50 6 rfl rfl)
theorem dL_law_1279 : decode cL_law 1279 = .ok (.iload 6, 2) := dk_21 6 (dk_at dksL_law_50 9 rfl rfl)
theorem dL_law_1281 : decode cL_law 1281 = .ok (.if_icmp .eq 5, 3) := dk_159 0 5 (dk_at dksL_law_50 11 rfl rfl)
theorem dL_law_1284 : decode cL_law 1284 = .ok (.iconst 0, 1) := dk_3 (dk_at dksL_law_50 14 rfl rfl)
theorem dL_law_1285 : decode cL_law 1285 = .ok (.ireturn, 1) := dk_172 (dk_at dksL_law_50 15 rfl rfl)
theorem dL_law_1286 : decode cL_law 1286 = .ok (.iload 6, 2) := dk_21 6 (dk_at dksL_law_50 16 rfl rfl)
theorem dL_law_1288 : decode cL_law 1288 = .ok (.ifCond .ne 15, 3) := dk_154 0 15 (dk_at dksL_law_50 18 rfl rfl)
theorem dL_law_1291 : decode cL_law 1291 = .ok (.aload_n 3, 1) := dk_45 (dk_at dksL_law_50 21 rfl rfl)
theorem dL_law_1292 : decode cL_law 1292 = .ok (.iconst 0, 1) := dk_3 (dk_at dksL_law_50 22 rfl rfl)
theorem dL_law_1293 : decode cL_law 1293 = .ok (.laload, 1) := dk_47 (dk_at dksL_law_50 23 rfl rfl)
theorem dL_law_1294 : decode cL_law 1294 = .ok (.iload 7, 2) := dk_21 7 (dk_at dksL_law_51 0 rfl rfl)
theorem dL_law_1296 : decode cL_law 1296 = .ok (.i2l, 1) := dk_133 (dk_at dksL_law_51 2 rfl rfl)
theorem dL_law_1297 : decode cL_law 1297 = .ok (.lcmp, 1) := dk_148 (dk_at dksL_law_51 3 rfl rfl)
theorem dL_law_1298 : decode cL_law 1298 = .ok (.ifCond .eq 5, 3) := dk_153 0 5 (dk_at dksL_law_51 4 rfl rfl)
theorem dL_law_1301 : decode cL_law 1301 = .ok (.iconst 0, 1) := dk_3 (dk_at dksL_law_51 7 rfl rfl)
theorem dL_law_1302 : decode cL_law 1302 = .ok (.ireturn, 1) := dk_172 (dk_at dksL_law_51 8 rfl rfl)
theorem dL_law_1303 : decode cL_law 1303 = .ok (.goto 409, 3) := dk_167 1 153 (dk_at dksL_law_51 9 rfl rfl)
theorem dL_law_1306 : decode cL_law 1306 = .ok (.aload_n 1, 1) := dk_43 (dk_at dksL_law_51 12 rfl rfl)
theorem dL_law_1307 : decode cL_law 1307 = .ok (.invokevirtual 173, 3) := dk_182 0 173 (dk_at dksL_law_51 13 rfl rfl)
theorem dL_law_1310 : decode cL_law 1310 = .ok (.aload_n 2, 1) := dk_44 (dk_at dksL_law_51 16 rfl rfl)
theorem dL_law_1311 : decode cL_law 1311 = .ok (.invokevirtual 176, 3) := dk_182 0 176 (dk_at dksL_law_51 17 rfl rfl)
theorem dL_law_1314 : decode cL_law 1314 = .ok (.if_icmp .eq 398, 3) := dk_159 1 142 (dk_at dksL_law_51 20 rfl rfl)
theorem dL_law_1317 : decode cL_law 1317 = .ok (.iconst 0, 1) := dk_3 (dk_at dksL_law_51 23 rfl rfl)
theorem dL_law_1318 : decode cL_law 1318 = .ok (.ireturn, 1) := dk_172 (dk_at dksL_law_52 0 rfl rfl)
theorem dL_law_1319 : decode cL_law 1319 = .ok (.aload_n 1, 1) := dk_43 (dk_at dksL_law_52 1 rfl rfl)
theorem dL_law_1320 : decode cL_law 1320 = .ok (.aload_n 0, 1) := dk_42 (dk_at dksL_law_52 2 rfl rfl)
theorem dL_law_1321 : decode cL_law 1321 = .ok (.iload 5, 2) := dk_21 5 (dk_at dksL_law_52 3 rfl rfl)
theorem dL_law_1323 : decode cL_law 1323 = .ok (.iconst 1, 1) := dk_4 (dk_at dksL_law_52 5 rfl rfl)
theorem dL_law_1324 : decode cL_law 1324 = .ok (.iadd, 1) := dk_96 (dk_at dksL_law_52 6 rfl rfl)
theorem dL_law_1325 : decode cL_law 1325 = .ok (.iaload, 1) := dk_46 (dk_at dksL_law_52 7 rfl rfl)
theorem dL_law_1326 : decode cL_law 1326 = .ok (.aload_n 3, 1) := dk_45 (dk_at dksL_law_52 8 rfl rfl)
theorem dL_law_1327 : decode cL_law 1327 = .ok (.invokestatic 177, 3) := dk_184 0 177 (dk_at dksL_law_52 9 rfl rfl)
theorem dL_law_1330 : decode cL_law 1330 = .ok (.istore 6, 2) := dk_54 6 (dk_at dksL_law_52 12 rfl rfl)
theorem dL_law_1332 : decode cL_law 1332 = .ok (.aload_n 2, 1) := dk_44 (dk_at dksL_law_52 14 rfl rfl)
theorem dL_law_1333 : decode cL_law 1333 = .ok (.aload_n 0, 1) := dk_42 (dk_at dksL_law_52 15 rfl rfl)
theorem dL_law_1334 : decode cL_law 1334 = .ok (.iload 5, 2) := dk_21 5 (dk_at dksL_law_52 16 rfl rfl)
theorem dL_law_1336 : decode cL_law 1336 = .ok (.iconst 1, 1) := dk_4 (dk_at dksL_law_52 18 rfl rfl)
theorem dL_law_1337 : decode cL_law 1337 = .ok (.iadd, 1) := dk_96 (dk_at dksL_law_52 19 rfl rfl)
theorem dL_law_1338 : decode cL_law 1338 = .ok (.iaload, 1) := dk_46 (dk_at dksL_law_52 20 rfl rfl)
theorem dL_law_1339 : decode cL_law 1339 = .ok (.invokevirtual 179, 3) := dk_182 0 179 (dk_at dksL_law_52 21 rfl rfl)
theorem dL_law_1342 : decode cL_law 1342 = .ok (.istore 7, 2) := dk_54 7 (dk_at dksL_law_53 0 rfl rfl)
theorem dL_law_1344 : decode cL_law 1344 = .ok (.aload_n 2, 1) := dk_44 (dk_at dksL_law_53 2 rfl rfl)
theorem dL_law_1345 : decode cL_law 1345 = .ok (.invokevirtual 111, 3) := dk_182 0 111 (dk_at dksL_law_53 3 rfl rfl)
theorem dL_law_1348 : decode cL_law 1348 = .ok (.iload 6, 2) := dk_21 6 (dk_at dksL_law_53 6 rfl rfl)
theorem dL_law_1350 : decode cL_law 1350 = .ok (.if_icmp .eq 5, 3) := dk_159 0 5 (dk_at dksL_law_53 8 rfl rfl)
theorem dL_law_1353 : decode cL_law 1353 = .ok (.iconst 0, 1) := dk_3 (dk_at dksL_law_53 11 rfl rfl)
theorem dL_law_1354 : decode cL_law 1354 = .ok (.ireturn, 1) := dk_172 (dk_at dksL_law_53 12 rfl rfl)
theorem dL_law_1355 : decode cL_law 1355 = .ok (.iload 6, 2) := dk_21 6 (dk_at dksL_law_53 13 rfl rfl)
theorem dL_law_1357 : decode cL_law 1357 = .ok (.ifCond .ne 15, 3) := dk_154 0 15 (dk_at dksL_law_53 15 rfl rfl)
theorem dL_law_1360 : decode cL_law 1360 = .ok (.aload_n 3, 1) := dk_45 (dk_at dksL_law_53 18 rfl rfl)
theorem dL_law_1361 : decode cL_law 1361 = .ok (.iconst 0, 1) := dk_3 (dk_at dksL_law_53 19 rfl rfl)
theorem dL_law_1362 : decode cL_law 1362 = .ok (.laload, 1) := dk_47 (dk_at dksL_law_53 20 rfl rfl)
theorem dL_law_1363 : decode cL_law 1363 = .ok (.iload 7, 2) := dk_21 7 (dk_at dksL_law_53 21 rfl rfl)
theorem dL_law_1365 : decode cL_law 1365 = .ok (.i2l, 1) := dk_133 (dk_at dksL_law_53 23 rfl rfl)
theorem dL_law_1366 : decode cL_law 1366 = .ok (.lcmp, 1) := dk_148 (dk_at dksL_law_54 0 rfl rfl)
theorem dL_law_1367 : decode cL_law 1367 = .ok (.ifCond .eq 5, 3) := dk_153 0 5 (dk_at dksL_law_54 1 rfl rfl)
theorem dL_law_1370 : decode cL_law 1370 = .ok (.iconst 0, 1) := dk_3 (dk_at dksL_law_54 4 rfl rfl)
theorem dL_law_1371 : decode cL_law 1371 = .ok (.ireturn, 1) := dk_172 (dk_at dksL_law_54 5 rfl rfl)
theorem dL_law_1372 : decode cL_law 1372 = .ok (.goto 340, 3) := dk_167 1 84 (dk_at dksL_law_54 6 rfl rfl)
theorem dL_law_1375 : decode cL_law 1375 = .ok (.aload_n 1, 1) := dk_43 (dk_at dksL_law_54 9 rfl rfl)
theorem dL_law_1376 : decode cL_law 1376 = .ok (.aload_n 0, 1) := dk_42 (dk_at dksL_law_54 10 rfl rfl)
theorem dL_law_1377 : decode cL_law 1377 = .ok (.iload 5, 2) := dk_21 5 (dk_at dksL_law_54 11 rfl rfl)
theorem dL_law_1379 : decode cL_law 1379 = .ok (.iconst 1, 1) := dk_4 (dk_at dksL_law_54 13 rfl rfl)
theorem dL_law_1380 : decode cL_law 1380 = .ok (.iadd, 1) := dk_96 (dk_at dksL_law_54 14 rfl rfl)
theorem dL_law_1381 : decode cL_law 1381 = .ok (.iaload, 1) := dk_46 (dk_at dksL_law_54 15 rfl rfl)
theorem dL_law_1382 : decode cL_law 1382 = .ok (.aload_n 0, 1) := dk_42 (dk_at dksL_law_54 16 rfl rfl)
theorem dL_law_1383 : decode cL_law 1383 = .ok (.iload 5, 2) := dk_21 5 (dk_at dksL_law_54 17 rfl rfl)
theorem dL_law_1385 : decode cL_law 1385 = .ok (.iconst 2, 1) := dk_5 (dk_at dksL_law_54 19 rfl rfl)
theorem dL_law_1386 : decode cL_law 1386 = .ok (.iadd, 1) := dk_96 (dk_at dksL_law_54 20 rfl rfl)
theorem dL_law_1387 : decode cL_law 1387 = .ok (.iaload, 1) := dk_46 (dk_at dksL_law_54 21 rfl rfl)
theorem dL_law_1388 : decode cL_law 1388 = .ok (.aload_n 3, 1) := dk_45 (dk_at dksL_law_54 22 rfl rfl)
theorem dL_law_1389 : decode cL_law 1389 = .ok (.invokestatic 180, 3) := dk_184 0 180 (dk_at dksL_law_55 0 rfl rfl)
theorem dL_law_1392 : decode cL_law 1392 = .ok (.istore 6, 2) := dk_54 6 (dk_at dksL_law_55 3 rfl rfl)
theorem dL_law_1394 : decode cL_law 1394 = .ok (.aload_n 2, 1) := dk_44 (dk_at dksL_law_55 5 rfl rfl)
theorem dL_law_1395 : decode cL_law 1395 = .ok (.aload_n 0, 1) := dk_42 (dk_at dksL_law_55 6 rfl rfl)
theorem dL_law_1396 : decode cL_law 1396 = .ok (.iload 5, 2) := dk_21 5 (dk_at dksL_law_55 7 rfl rfl)
theorem dL_law_1398 : decode cL_law 1398 = .ok (.iconst 1, 1) := dk_4 (dk_at dksL_law_55 9 rfl rfl)
theorem dL_law_1399 : decode cL_law 1399 = .ok (.iadd, 1) := dk_96 (dk_at dksL_law_55 10 rfl rfl)
theorem dL_law_1400 : decode cL_law 1400 = .ok (.iaload, 1) := dk_46 (dk_at dksL_law_55 11 rfl rfl)
theorem dL_law_1401 : decode cL_law 1401 = .ok (.aload_n 0, 1) := dk_42 (dk_at dksL_law_55 12 rfl rfl)
theorem dL_law_1402 : decode cL_law 1402 = .ok (.iload 5, 2) := dk_21 5 (dk_at dksL_law_55 13 rfl rfl)
theorem dL_law_1404 : decode cL_law 1404 = .ok (.iconst 2, 1) := dk_5 (dk_at dksL_law_55 15 rfl rfl)
theorem dL_law_1405 : decode cL_law 1405 = .ok (.iadd, 1) := dk_96 (dk_at dksL_law_55 16 rfl rfl)
theorem dL_law_1406 : decode cL_law 1406 = .ok (.iaload, 1) := dk_46 (dk_at dksL_law_55 17 rfl rfl)
theorem dL_law_1407 : decode cL_law 1407 = .ok (.invokevirtual 182, 3) := dk_182 0 182 (dk_at dksL_law_55 18 rfl rfl)
theorem dL_law_1410 : decode cL_law 1410 = .ok (.istore 7, 2) := dk_54 7 (dk_at dksL_law_55 21 rfl rfl)
theorem dL_law_1412 : decode cL_law 1412 = .ok (.aload_n 2, 1) := dk_44 (dk_at dksL_law_55 23 rfl rfl)
theorem dL_law_1413 : decode cL_law 1413 = .ok (.invokevirtual 111, 3) := dk_182 0 111 (dk_at dksL_law_56 0 rfl rfl)
theorem dL_law_1416 : decode cL_law 1416 = .ok (.iload 6, 2) := dk_21 6 (dk_at dksL_law_56 3 rfl rfl)
theorem dL_law_1418 : decode cL_law 1418 = .ok (.if_icmp .eq 5, 3) := dk_159 0 5 (dk_at dksL_law_56 5 rfl rfl)
theorem dL_law_1421 : decode cL_law 1421 = .ok (.iconst 0, 1) := dk_3 (dk_at dksL_law_56 8 rfl rfl)
theorem dL_law_1422 : decode cL_law 1422 = .ok (.ireturn, 1) := dk_172 (dk_at dksL_law_56 9 rfl rfl)
theorem dL_law_1423 : decode cL_law 1423 = .ok (.iload 6, 2) := dk_21 6 (dk_at dksL_law_56 10 rfl rfl)
theorem dL_law_1425 : decode cL_law 1425 = .ok (.ifCond .ne 15, 3) := dk_154 0 15 (dk_at dksL_law_56 12 rfl rfl)
theorem dL_law_1428 : decode cL_law 1428 = .ok (.aload_n 3, 1) := dk_45 (dk_at dksL_law_56 15 rfl rfl)
theorem dL_law_1429 : decode cL_law 1429 = .ok (.iconst 0, 1) := dk_3 (dk_at dksL_law_56 16 rfl rfl)
theorem dL_law_1430 : decode cL_law 1430 = .ok (.laload, 1) := dk_47 (dk_at dksL_law_56 17 rfl rfl)
theorem dL_law_1431 : decode cL_law 1431 = .ok (.iload 7, 2) := dk_21 7 (dk_at dksL_law_56 18 rfl rfl)
theorem dL_law_1433 : decode cL_law 1433 = .ok (.i2l, 1) := dk_133 (dk_at dksL_law_56 20 rfl rfl)
theorem dL_law_1434 : decode cL_law 1434 = .ok (.lcmp, 1) := dk_148 (dk_at dksL_law_56 21 rfl rfl)
theorem dL_law_1435 : decode cL_law 1435 = .ok (.ifCond .eq 5, 3) := dk_153 0 5 (dk_at dksL_law_57 0 rfl rfl)
theorem dL_law_1438 : decode cL_law 1438 = .ok (.iconst 0, 1) := dk_3 (dk_at dksL_law_57 3 rfl rfl)
theorem dL_law_1439 : decode cL_law 1439 = .ok (.ireturn, 1) := dk_172 (dk_at dksL_law_57 4 rfl rfl)
theorem dL_law_1440 : decode cL_law 1440 = .ok (.goto 272, 3) := dk_167 1 16 (dk_at dksL_law_57 5 rfl rfl)
theorem dL_law_1443 : decode cL_law 1443 = .ok (.aload_n 1, 1) := dk_43 (dk_at dksL_law_57 8 rfl rfl)
theorem dL_law_1444 : decode cL_law 1444 = .ok (.aload_n 0, 1) := dk_42 (dk_at dksL_law_57 9 rfl rfl)
theorem dL_law_1445 : decode cL_law 1445 = .ok (.iload 5, 2) := dk_21 5 (dk_at dksL_law_57 10 rfl rfl)
theorem dL_law_1447 : decode cL_law 1447 = .ok (.iconst 1, 1) := dk_4 (dk_at dksL_law_57 12 rfl rfl)
theorem dL_law_1448 : decode cL_law 1448 = .ok (.iadd, 1) := dk_96 (dk_at dksL_law_57 13 rfl rfl)
theorem dL_law_1449 : decode cL_law 1449 = .ok (.iaload, 1) := dk_46 (dk_at dksL_law_57 14 rfl rfl)
theorem dL_law_1450 : decode cL_law 1450 = .ok (.aload_n 0, 1) := dk_42 (dk_at dksL_law_57 15 rfl rfl)
theorem dL_law_1451 : decode cL_law 1451 = .ok (.iload 5, 2) := dk_21 5 (dk_at dksL_law_57 16 rfl rfl)
theorem dL_law_1453 : decode cL_law 1453 = .ok (.iconst 2, 1) := dk_5 (dk_at dksL_law_57 18 rfl rfl)
theorem dL_law_1454 : decode cL_law 1454 = .ok (.iadd, 1) := dk_96 (dk_at dksL_law_57 19 rfl rfl)
theorem dL_law_1455 : decode cL_law 1455 = .ok (.iaload, 1) := dk_46 (dk_at dksL_law_57 20 rfl rfl)
theorem dL_law_1456 : decode cL_law 1456 = .ok (.aload_n 3, 1) := dk_45 (dk_at dksL_law_57 21 rfl rfl)
theorem dL_law_1457 : decode cL_law 1457 = .ok (.invokestatic 183, 3) := dk_184 0 183 (dk_at dksL_law_58 0 rfl rfl)
theorem dL_law_1460 : decode cL_law 1460 = .ok (.istore 6, 2) := dk_54 6 (dk_at dksL_law_58 3 rfl rfl)
theorem dL_law_1462 : decode cL_law 1462 = .ok (.aload_n 2, 1) := dk_44 (dk_at dksL_law_58 5 rfl rfl)
theorem dL_law_1463 : decode cL_law 1463 = .ok (.aload_n 0, 1) := dk_42 (dk_at dksL_law_58 6 rfl rfl)
theorem dL_law_1464 : decode cL_law 1464 = .ok (.iload 5, 2) := dk_21 5 (dk_at dksL_law_58 7 rfl rfl)
theorem dL_law_1466 : decode cL_law 1466 = .ok (.iconst 1, 1) := dk_4 (dk_at dksL_law_58 9 rfl rfl)
theorem dL_law_1467 : decode cL_law 1467 = .ok (.iadd, 1) := dk_96 (dk_at dksL_law_58 10 rfl rfl)
theorem dL_law_1468 : decode cL_law 1468 = .ok (.iaload, 1) := dk_46 (dk_at dksL_law_58 11 rfl rfl)
theorem dL_law_1469 : decode cL_law 1469 = .ok (.aload_n 0, 1) := dk_42 (dk_at dksL_law_58 12 rfl rfl)
theorem dL_law_1470 : decode cL_law 1470 = .ok (.iload 5, 2) := dk_21 5 (dk_at dksL_law_58 13 rfl rfl)
theorem dL_law_1472 : decode cL_law 1472 = .ok (.iconst 2, 1) := dk_5 (dk_at dksL_law_58 15 rfl rfl)
theorem dL_law_1473 : decode cL_law 1473 = .ok (.iadd, 1) := dk_96 (dk_at dksL_law_58 16 rfl rfl)
theorem dL_law_1474 : decode cL_law 1474 = .ok (.iaload, 1) := dk_46 (dk_at dksL_law_58 17 rfl rfl)
theorem dL_law_1475 : decode cL_law 1475 = .ok (.invokevirtual 185, 3) := dk_182 0 185 (dk_at dksL_law_58 18 rfl rfl)
theorem dL_law_1478 : decode cL_law 1478 = .ok (.istore 7, 2) := dk_54 7 (dk_at dksL_law_58 21 rfl rfl)
theorem dL_law_1480 : decode cL_law 1480 = .ok (.aload_n 2, 1) := dk_44 (dk_at dksL_law_58 23 rfl rfl)
theorem dL_law_1481 : decode cL_law 1481 = .ok (.invokevirtual 111, 3) := dk_182 0 111 (dk_at dksL_law_59 0 rfl rfl)
theorem dL_law_1484 : decode cL_law 1484 = .ok (.iload 6, 2) := dk_21 6 (dk_at dksL_law_59 3 rfl rfl)
theorem dL_law_1486 : decode cL_law 1486 = .ok (.if_icmp .eq 5, 3) := dk_159 0 5 (dk_at dksL_law_59 5 rfl rfl)
theorem dL_law_1489 : decode cL_law 1489 = .ok (.iconst 0, 1) := dk_3 (dk_at dksL_law_59 8 rfl rfl)
theorem dL_law_1490 : decode cL_law 1490 = .ok (.ireturn, 1) := dk_172 (dk_at dksL_law_59 9 rfl rfl)
theorem dL_law_1491 : decode cL_law 1491 = .ok (.iload 6, 2) := dk_21 6 (dk_at dksL_law_59 10 rfl rfl)
theorem dL_law_1493 : decode cL_law 1493 = .ok (.ifCond .ne 15, 3) := dk_154 0 15 (dk_at dksL_law_59 12 rfl rfl)
theorem dL_law_1496 : decode cL_law 1496 = .ok (.aload_n 3, 1) := dk_45 (dk_at dksL_law_59 15 rfl rfl)
theorem dL_law_1497 : decode cL_law 1497 = .ok (.iconst 0, 1) := dk_3 (dk_at dksL_law_59 16 rfl rfl)
theorem dL_law_1498 : decode cL_law 1498 = .ok (.laload, 1) := dk_47 (dk_at dksL_law_59 17 rfl rfl)
theorem dL_law_1499 : decode cL_law 1499 = .ok (.iload 7, 2) := dk_21 7 (dk_at dksL_law_59 18 rfl rfl)
theorem dL_law_1501 : decode cL_law 1501 = .ok (.i2l, 1) := dk_133 (dk_at dksL_law_59 20 rfl rfl)
theorem dL_law_1502 : decode cL_law 1502 = .ok (.lcmp, 1) := dk_148 (dk_at dksL_law_59 21 rfl rfl)
theorem dL_law_1503 : decode cL_law 1503 = .ok (.ifCond .eq 5, 3) := dk_153 0 5 (dk_at dksL_law_60 0 rfl rfl)
theorem dL_law_1506 : decode cL_law 1506 = .ok (.iconst 0, 1) := dk_3 (dk_at dksL_law_60 3 rfl rfl)
theorem dL_law_1507 : decode cL_law 1507 = .ok (.ireturn, 1) := dk_172 (dk_at dksL_law_60 4 rfl rfl)
theorem dL_law_1508 : decode cL_law 1508 = .ok (.goto 204, 3) := dk_167 0 204 (dk_at dksL_law_60 5 rfl rfl)
theorem dL_law_1511 : decode cL_law 1511 = .ok (.aload_n 1, 1) := dk_43 (dk_at dksL_law_60 8 rfl rfl)
theorem dL_law_1512 : decode cL_law 1512 = .ok (.aload_n 0, 1) := dk_42 (dk_at dksL_law_60 9 rfl rfl)
theorem dL_law_1513 : decode cL_law 1513 = .ok (.iload 5, 2) := dk_21 5 (dk_at dksL_law_60 10 rfl rfl)
theorem dL_law_1515 : decode cL_law 1515 = .ok (.iconst 1, 1) := dk_4 (dk_at dksL_law_60 12 rfl rfl)
theorem dL_law_1516 : decode cL_law 1516 = .ok (.iadd, 1) := dk_96 (dk_at dksL_law_60 13 rfl rfl)
theorem dL_law_1517 : decode cL_law 1517 = .ok (.iaload, 1) := dk_46 (dk_at dksL_law_60 14 rfl rfl)
theorem dL_law_1518 : decode cL_law 1518 = .ok (.aload_n 3, 1) := dk_45 (dk_at dksL_law_60 15 rfl rfl)
theorem dL_law_1519 : decode cL_law 1519 = .ok (.invokestatic 186, 3) := dk_184 0 186 (dk_at dksL_law_60 16 rfl rfl)
theorem dL_law_1522 : decode cL_law 1522 = .ok (.istore 6, 2) := dk_54 6 (dk_at dksL_law_60 19 rfl rfl)
theorem dL_law_1524 : decode cL_law 1524 = .ok (.aload_n 2, 1) := dk_44 (dk_at dksL_law_60 21 rfl rfl)
theorem dL_law_1525 : decode cL_law 1525 = .ok (.aload_n 0, 1) := dk_42 (dk_at dksL_law_60 22 rfl rfl)
theorem dL_law_1526 : decode cL_law 1526 = .ok (.iload 5, 2) := dk_21 5 (dk_at dksL_law_61 0 rfl rfl)
theorem dL_law_1528 : decode cL_law 1528 = .ok (.iconst 1, 1) := dk_4 (dk_at dksL_law_61 2 rfl rfl)
theorem dL_law_1529 : decode cL_law 1529 = .ok (.iadd, 1) := dk_96 (dk_at dksL_law_61 3 rfl rfl)
theorem dL_law_1530 : decode cL_law 1530 = .ok (.iaload, 1) := dk_46 (dk_at dksL_law_61 4 rfl rfl)
theorem dL_law_1531 : decode cL_law 1531 = .ok (.invokevirtual 188, 3) := dk_182 0 188 (dk_at dksL_law_61 5 rfl rfl)
theorem dL_law_1534 : decode cL_law 1534 = .ok (.istore 7, 2) := dk_54 7 (dk_at dksL_law_61 8 rfl rfl)
theorem dL_law_1536 : decode cL_law 1536 = .ok (.aload_n 2, 1) := dk_44 (dk_at dksL_law_61 10 rfl rfl)
theorem dL_law_1537 : decode cL_law 1537 = .ok (.invokevirtual 111, 3) := dk_182 0 111 (dk_at dksL_law_61 11 rfl rfl)
theorem dL_law_1540 : decode cL_law 1540 = .ok (.iload 6, 2) := dk_21 6 (dk_at dksL_law_61 14 rfl rfl)
theorem dL_law_1542 : decode cL_law 1542 = .ok (.if_icmp .eq 5, 3) := dk_159 0 5 (dk_at dksL_law_61 16 rfl rfl)
theorem dL_law_1545 : decode cL_law 1545 = .ok (.iconst 0, 1) := dk_3 (dk_at dksL_law_61 19 rfl rfl)
theorem dL_law_1546 : decode cL_law 1546 = .ok (.ireturn, 1) := dk_172 (dk_at dksL_law_61 20 rfl rfl)
theorem dL_law_1547 : decode cL_law 1547 = .ok (.iload 6, 2) := dk_21 6 (dk_at dksL_law_61 21 rfl rfl)
theorem dL_law_1549 : decode cL_law 1549 = .ok (.ifCond .ne 15, 3) := dk_154 0 15 (dk_at dksL_law_62 0 rfl rfl)
theorem dL_law_1552 : decode cL_law 1552 = .ok (.aload_n 3, 1) := dk_45 (dk_at dksL_law_62 3 rfl rfl)
theorem dL_law_1553 : decode cL_law 1553 = .ok (.iconst 0, 1) := dk_3 (dk_at dksL_law_62 4 rfl rfl)
theorem dL_law_1554 : decode cL_law 1554 = .ok (.laload, 1) := dk_47 (dk_at dksL_law_62 5 rfl rfl)
theorem dL_law_1555 : decode cL_law 1555 = .ok (.iload 7, 2) := dk_21 7 (dk_at dksL_law_62 6 rfl rfl)
theorem dL_law_1557 : decode cL_law 1557 = .ok (.i2l, 1) := dk_133 (dk_at dksL_law_62 8 rfl rfl)
theorem dL_law_1558 : decode cL_law 1558 = .ok (.lcmp, 1) := dk_148 (dk_at dksL_law_62 9 rfl rfl)
theorem dL_law_1559 : decode cL_law 1559 = .ok (.ifCond .eq 5, 3) := dk_153 0 5 (dk_at dksL_law_62 10 rfl rfl)
theorem dL_law_1562 : decode cL_law 1562 = .ok (.iconst 0, 1) := dk_3 (dk_at dksL_law_62 13 rfl rfl)
theorem dL_law_1563 : decode cL_law 1563 = .ok (.ireturn, 1) := dk_172 (dk_at dksL_law_62 14 rfl rfl)
theorem dL_law_1564 : decode cL_law 1564 = .ok (.goto 148, 3) := dk_167 0 148 (dk_at dksL_law_62 15 rfl rfl)
theorem dL_law_1567 : decode cL_law 1567 = .ok (.aload_n 1, 1) := dk_43 (dk_at dksL_law_62 18 rfl rfl)
theorem dL_law_1568 : decode cL_law 1568 = .ok (.invokevirtual 189, 3) := dk_182 0 189 (dk_at dksL_law_62 19 rfl rfl)
theorem dL_law_1571 : decode cL_law 1571 = .ok (.aload_n 2, 1) := dk_44 (dk_at dksL_law_62 22 rfl rfl)
theorem dL_law_1572 : decode cL_law 1572 = .ok (.invokevirtual 193, 3) := dk_182 0 193 (dk_at dksL_law_63 0 rfl rfl)
theorem dL_law_1575 : decode cL_law 1575 = .ok (.lcmp, 1) := dk_148 (dk_at dksL_law_63 3 rfl rfl)
theorem dL_law_1576 : decode cL_law 1576 = .ok (.ifCond .eq 136, 3) := dk_153 0 136 (dk_at dksL_law_63 4 rfl rfl)
theorem dL_law_1579 : decode cL_law 1579 = .ok (.iconst 0, 1) := dk_3 (dk_at dksL_law_63 7 rfl rfl)
theorem dL_law_1580 : decode cL_law 1580 = .ok (.ireturn, 1) := dk_172 (dk_at dksL_law_63 8 rfl rfl)
theorem dL_law_1581 : decode cL_law 1581 = .ok (.aload_n 1, 1) := dk_43 (dk_at dksL_law_63 9 rfl rfl)
theorem dL_law_1582 : decode cL_law 1582 = .ok (.aload 4, 2) := dk_25 4 (dk_at dksL_law_63 10 rfl rfl)
theorem dL_law_1584 : decode cL_law 1584 = .ok (.invokestatic 194, 3) := dk_184 0 194 (dk_at dksL_law_63 12 rfl rfl)
theorem dL_law_1587 : decode cL_law 1587 = .ok (.istore 6, 2) := dk_54 6 (dk_at dksL_law_63 15 rfl rfl)
theorem dL_law_1589 : decode cL_law 1589 = .ok (.aload_n 2, 1) := dk_44 (dk_at dksL_law_63 17 rfl rfl)
theorem dL_law_1590 : decode cL_law 1590 = .ok (.invokevirtual 197, 3) := dk_182 0 197 (dk_at dksL_law_63 18 rfl rfl)
theorem dL_law_1593 : decode cL_law 1593 = .ok (.fstore 7, 2) := dk_56 7 (dk_at dksL_law_63 21 rfl rfl)
theorem dL_law_1595 : decode cL_law 1595 = .ok (.aload_n 2, 1) := dk_44 (dk_at dksL_law_63 23 rfl rfl)
theorem dL_law_1596 : decode cL_law 1596 = .ok (.invokevirtual 111, 3) := dk_182 0 111 (dk_at dksL_law_64 0 rfl rfl)
theorem dL_law_1599 : decode cL_law 1599 = .ok (.iload 6, 2) := dk_21 6 (dk_at dksL_law_64 3 rfl rfl)
theorem dL_law_1601 : decode cL_law 1601 = .ok (.if_icmp .eq 5, 3) := dk_159 0 5 (dk_at dksL_law_64 5 rfl rfl)
theorem dL_law_1604 : decode cL_law 1604 = .ok (.iconst 0, 1) := dk_3 (dk_at dksL_law_64 8 rfl rfl)
theorem dL_law_1605 : decode cL_law 1605 = .ok (.ireturn, 1) := dk_172 (dk_at dksL_law_64 9 rfl rfl)
theorem dL_law_1606 : decode cL_law 1606 = .ok (.iload 6, 2) := dk_21 6 (dk_at dksL_law_64 10 rfl rfl)
theorem dL_law_1608 : decode cL_law 1608 = .ok (.ifCond .ne 36, 3) := dk_154 0 36 (dk_at dksL_law_64 12 rfl rfl)
theorem dL_law_1611 : decode cL_law 1611 = .ok (.aload 4, 2) := dk_25 4 (dk_at dksL_law_64 15 rfl rfl)
theorem dL_law_1613 : decode cL_law 1613 = .ok (.iconst 0, 1) := dk_3 (dk_at dksL_law_64 17 rfl rfl)
theorem dL_law_1614 : decode cL_law 1614 = .ok (.daload, 1) := dk_49 (dk_at dksL_law_64 18 rfl rfl)
theorem dL_law_1615 : decode cL_law 1615 = .ok (.fload 7, 2) := dk_23 7 (dk_at dksL_law_64 19 rfl rfl)
theorem dL_law_1617 : decode cL_law 1617 = .ok (.f2d, 1) := dk_141 (dk_at dksL_law_64 21 rfl rfl)
theorem dL_law_1618 : decode cL_law 1618 = .ok (.dcmp .l, 1) := dk_151 (dk_at dksL_law_64 22 rfl rfl)
theorem dL_law_1619 : decode cL_law 1619 = .ok (.ifCond .eq 25, 3) := dk_153 0 25 (dk_at dksL_law_65 0 rfl rfl)
theorem dL_law_1622 : decode cL_law 1622 = .ok (.aload 4, 2) := dk_25 4 (dk_at dksL_law_65 3 rfl rfl)
theorem dL_law_1624 : decode cL_law 1624 = .ok (.iconst 0, 1) := dk_3 (dk_at dksL_law_65 5 rfl rfl)
theorem dL_law_1625 : decode cL_law 1625 = .ok (.daload, 1) := dk_49 (dk_at dksL_law_65 6 rfl rfl)
theorem dL_law_1626 : decode cL_law 1626 = .ok (.aload 4, 2) := dk_25 4 (dk_at dksL_law_65 7 rfl rfl)
theorem dL_law_1628 : decode cL_law 1628 = .ok (.iconst 0, 1) := dk_3 (dk_at dksL_law_65 9 rfl rfl)
theorem dL_law_1629 : decode cL_law 1629 = .ok (.daload, 1) := dk_49 (dk_at dksL_law_65 10 rfl rfl)
theorem dL_law_1630 : decode cL_law 1630 = .ok (.dcmp .l, 1) := dk_151 (dk_at dksL_law_65 11 rfl rfl)
theorem dL_law_1631 : decode cL_law 1631 = .ok (.ifCond .eq 11, 3) := dk_153 0 11 (dk_at dksL_law_65 12 rfl rfl)
theorem dL_law_1634 : decode cL_law 1634 = .ok (.fload 7, 2) := dk_23 7 (dk_at dksL_law_65 15 rfl rfl)
theorem dL_law_1636 : decode cL_law 1636 = .ok (.fload 7, 2) := dk_23 7 (dk_at dksL_law_65 17 rfl rfl)
theorem dL_law_1638 : decode cL_law 1638 = .ok (.fcmp .l, 1) := dk_149 (dk_at dksL_law_65 19 rfl rfl)
theorem dL_law_1639 : decode cL_law 1639 = .ok (.ifCond .ne 5, 3) := dk_154 0 5 (dk_at dksL_law_65 20 rfl rfl)
theorem dL_law_1642 : decode cL_law 1642 = .ok (.iconst 0, 1) := dk_3 (dk_at dksL_law_65 23 rfl rfl)
theorem dL_law_1643 : decode cL_law 1643 = .ok (.ireturn, 1) := dk_172 (dk_at dksL_law_66 0 rfl rfl)
theorem dL_law_1644 : decode cL_law 1644 = .ok (.goto 68, 3) := dk_167 0 68 (dk_at dksL_law_66 1 rfl rfl)
theorem dL_law_1647 : decode cL_law 1647 = .ok (.aload_n 1, 1) := dk_43 (dk_at dksL_law_66 4 rfl rfl)
theorem dL_law_1648 : decode cL_law 1648 = .ok (.aload 4, 2) := dk_25 4 (dk_at dksL_law_66 5 rfl rfl)
theorem dL_law_1650 : decode cL_law 1650 = .ok (.invokestatic 198, 3) := dk_184 0 198 (dk_at dksL_law_66 7 rfl rfl)
theorem dL_law_1653 : decode cL_law 1653 = .ok (.istore 6, 2) := dk_54 6 (dk_at dksL_law_66 10 rfl rfl)
theorem dL_law_1655 : decode cL_law 1655 = .ok (.aload_n 2, 1) := dk_44 (dk_at dksL_law_66 12 rfl rfl)
theorem dL_law_1656 : decode cL_law 1656 = .ok (.invokevirtual 200, 3) := dk_182 0 200 (dk_at dksL_law_66 13 rfl rfl)
theorem dL_law_1659 : decode cL_law 1659 = .ok (.dstore 7, 2) := dk_57 7 (dk_at dksL_law_66 16 rfl rfl)
theorem dL_law_1661 : decode cL_law 1661 = .ok (.aload_n 2, 1) := dk_44 (dk_at dksL_law_66 18 rfl rfl)
theorem dL_law_1662 : decode cL_law 1662 = .ok (.invokevirtual 111, 3) := dk_182 0 111 (dk_at dksL_law_66 19 rfl rfl)
theorem dL_law_1665 : decode cL_law 1665 = .ok (.iload 6, 2) := dk_21 6 (dk_at dksL_law_66 22 rfl rfl)
theorem dL_law_1667 : decode cL_law 1667 = .ok (.if_icmp .eq 5, 3) := dk_159 0 5 (dk_at dksL_law_67 0 rfl rfl)
theorem dL_law_1670 : decode cL_law 1670 = .ok (.iconst 0, 1) := dk_3 (dk_at dksL_law_67 3 rfl rfl)
theorem dL_law_1671 : decode cL_law 1671 = .ok (.ireturn, 1) := dk_172 (dk_at dksL_law_67 4 rfl rfl)
theorem dL_law_1672 : decode cL_law 1672 = .ok (.iload 6, 2) := dk_21 6 (dk_at dksL_law_67 5 rfl rfl)
theorem dL_law_1674 : decode cL_law 1674 = .ok (.ifCond .ne 35, 3) := dk_154 0 35 (dk_at dksL_law_67 7 rfl rfl)
theorem dL_law_1677 : decode cL_law 1677 = .ok (.aload 4, 2) := dk_25 4 (dk_at dksL_law_67 10 rfl rfl)
theorem dL_law_1679 : decode cL_law 1679 = .ok (.iconst 0, 1) := dk_3 (dk_at dksL_law_67 12 rfl rfl)
theorem dL_law_1680 : decode cL_law 1680 = .ok (.daload, 1) := dk_49 (dk_at dksL_law_67 13 rfl rfl)
theorem dL_law_1681 : decode cL_law 1681 = .ok (.dload 7, 2) := dk_24 7 (dk_at dksL_law_67 14 rfl rfl)
theorem dL_law_1683 : decode cL_law 1683 = .ok (.dcmp .l, 1) := dk_151 (dk_at dksL_law_67 16 rfl rfl)
theorem dL_law_1684 : decode cL_law 1684 = .ok (.ifCond .eq 25, 3) := dk_153 0 25 (dk_at dksL_law_67 17 rfl rfl)
theorem dL_law_1687 : decode cL_law 1687 = .ok (.aload 4, 2) := dk_25 4 (dk_at dksL_law_67 20 rfl rfl)
theorem dL_law_1689 : decode cL_law 1689 = .ok (.iconst 0, 1) := dk_3 (dk_at dksL_law_67 22 rfl rfl)
theorem dL_law_1690 : decode cL_law 1690 = .ok (.daload, 1) := dk_49 (dk_at dksL_law_67 23 rfl rfl)
theorem dL_law_1691 : decode cL_law 1691 = .ok (.aload 4, 2) := dk_25 4 (dk_at dksL_law_68 0 rfl rfl)
theorem dL_law_1693 : decode cL_law 1693 = .ok (.iconst 0, 1) := dk_3 (dk_at dksL_law_68 2 rfl rfl)
theorem dL_law_1694 : decode cL_law 1694 = .ok (.daload, 1) := dk_49 (dk_at dksL_law_68 3 rfl rfl)
theorem dL_law_1695 : decode cL_law 1695 = .ok (.dcmp .l, 1) := dk_151 (dk_at dksL_law_68 4 rfl rfl)
theorem dL_law_1696 : decode cL_law 1696 = .ok (.ifCond .eq 11, 3) := dk_153 0 11 (dk_at dksL_law_68 5 rfl rfl)
theorem dL_law_1699 : decode cL_law 1699 = .ok (.dload 7, 2) := dk_24 7 (dk_at dksL_law_68 8 rfl rfl)
theorem dL_law_1701 : decode cL_law 1701 = .ok (.dload 7, 2) := dk_24 7 (dk_at dksL_law_68 10 rfl rfl)
theorem dL_law_1703 : decode cL_law 1703 = .ok (.dcmp .l, 1) := dk_151 (dk_at dksL_law_68 12 rfl rfl)
theorem dL_law_1704 : decode cL_law 1704 = .ok (.ifCond .ne 5, 3) := dk_154 0 5 (dk_at dksL_law_68 13 rfl rfl)
theorem dL_law_1707 : decode cL_law 1707 = .ok (.iconst 0, 1) := dk_3 (dk_at dksL_law_68 16 rfl rfl)
theorem dL_law_1708 : decode cL_law 1708 = .ok (.ireturn, 1) := dk_172 (dk_at dksL_law_68 17 rfl rfl)
theorem dL_law_1709 : decode cL_law 1709 = .ok (.goto 3, 3) := dk_167 0 3 (dk_at dksL_law_68 18 rfl rfl)
theorem dL_law_1712 : decode cL_law 1712 = .ok (.iinc 5 4, 3) := dk_132 5 4 (dk_at dksL_law_68 21 rfl rfl)
theorem dL_law_1715 : decode cL_law 1715 = .ok (.goto (-1687), 3) := dk_167 249 105 (dk_at dksL_law_69 0 rfl rfl)
theorem dL_law_1718 : decode cL_law 1718 = .ok (.iconst 1, 1) := dk_4 (dk_at dksL_law_69 3 rfl rfl)
theorem dL_law_1719 : decode cL_law 1719 = .ok (.ireturn, 1) := dk_172 (dk_at dksL_law_69 4 rfl rfl)
