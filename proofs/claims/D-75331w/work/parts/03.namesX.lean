/-! BlockingShopLaw -/
set_option maxRecDepth 100000
def RX0 : String := "BlockingShopLaw"
abbrev cX0_load : ByteArray := method_3_code
def yX0_load : MethodName := ⟨RX0, "load", "(LBlockingShop;I[J)I"⟩
def dkwX0_load_0 : List UInt8 := [44, 3, 42, 27, 182, 0, 7, 133, 80, 167, 0, 6, 78, 4, 172, 3, 172]
abbrev dktX0_load_0 : List UInt8 := dkwX0_load_0 ++ []
theorem dksX0_load_0 : cX0_load.data.toList.drop 0 = dktX0_load_0 := by decide +kernel
theorem dX0_load_0 : decode cX0_load 0 = .ok (.aload_n 2, 1) := dk_44 (dk_at dksX0_load_0 0 rfl rfl)
theorem dX0_load_1 : decode cX0_load 1 = .ok (.iconst 0, 1) := dk_3 (dk_at dksX0_load_0 1 rfl rfl)
theorem dX0_load_2 : decode cX0_load 2 = .ok (.aload_n 0, 1) := dk_42 (dk_at dksX0_load_0 2 rfl rfl)
theorem dX0_load_3 : decode cX0_load 3 = .ok (.iload_n 1, 1) := dk_27 (dk_at dksX0_load_0 3 rfl rfl)
theorem dX0_load_4 : decode cX0_load 4 = .ok (.invokevirtual 7, 3) := dk_182 0 7 (dk_at dksX0_load_0 4 rfl rfl)
theorem dX0_load_7 : decode cX0_load 7 = .ok (.i2l, 1) := dk_133 (dk_at dksX0_load_0 7 rfl rfl)
theorem dX0_load_8 : decode cX0_load 8 = .ok (.lastore, 1) := dk_80 (dk_at dksX0_load_0 8 rfl rfl)
theorem dX0_load_9 : decode cX0_load 9 = .ok (.goto 6, 3) := dk_167 0 6 (dk_at dksX0_load_0 9 rfl rfl)
theorem dX0_load_12 : decode cX0_load 12 = .ok (.astore_n 3, 1) := dk_78 (dk_at dksX0_load_0 12 rfl rfl)
theorem dX0_load_13 : decode cX0_load 13 = .ok (.iconst 1, 1) := dk_4 (dk_at dksX0_load_0 13 rfl rfl)
theorem dX0_load_14 : decode cX0_load 14 = .ok (.ireturn, 1) := dk_172 (dk_at dksX0_load_0 14 rfl rfl)
theorem dX0_load_15 : decode cX0_load 15 = .ok (.iconst 0, 1) := dk_3 (dk_at dksX0_load_0 15 rfl rfl)
theorem dX0_load_16 : decode cX0_load 16 = .ok (.ireturn, 1) := dk_172 (dk_at dksX0_load_0 16 rfl rfl)
abbrev cX0_operationCount : ByteArray := method_4_code
def yX0_operationCount : MethodName := ⟨RX0, "operationCount", "(LBlockingShop;I[J)I"⟩
def dkwX0_operationCount_0 : List UInt8 := [44, 3, 42, 27, 182, 0, 15, 133, 80, 167, 0, 6, 78, 4, 172, 3, 172]
abbrev dktX0_operationCount_0 : List UInt8 := dkwX0_operationCount_0 ++ []
theorem dksX0_operationCount_0 : cX0_operationCount.data.toList.drop 0 = dktX0_operationCount_0 := by decide +kernel
theorem dX0_operationCount_0 : decode cX0_operationCount 0 = .ok (.aload_n 2, 1) := dk_44 (dk_at dksX0_operationCount_0 0 rfl rfl)
theorem dX0_operationCount_1 : decode cX0_operationCount 1 = .ok (.iconst 0, 1) := dk_3 (dk_at dksX0_operationCount_0 1 rfl rfl)
theorem dX0_operationCount_2 : decode cX0_operationCount 2 = .ok (.aload_n 0, 1) := dk_42 (dk_at dksX0_operationCount_0 2 rfl rfl)
theorem dX0_operationCount_3 : decode cX0_operationCount 3 = .ok (.iload_n 1, 1) := dk_27 (dk_at dksX0_operationCount_0 3 rfl rfl)
theorem dX0_operationCount_4 : decode cX0_operationCount 4 = .ok (.invokevirtual 15, 3) := dk_182 0 15 (dk_at dksX0_operationCount_0 4 rfl rfl)
theorem dX0_operationCount_7 : decode cX0_operationCount 7 = .ok (.i2l, 1) := dk_133 (dk_at dksX0_operationCount_0 7 rfl rfl)
theorem dX0_operationCount_8 : decode cX0_operationCount 8 = .ok (.lastore, 1) := dk_80 (dk_at dksX0_operationCount_0 8 rfl rfl)
theorem dX0_operationCount_9 : decode cX0_operationCount 9 = .ok (.goto 6, 3) := dk_167 0 6 (dk_at dksX0_operationCount_0 9 rfl rfl)
theorem dX0_operationCount_12 : decode cX0_operationCount 12 = .ok (.astore_n 3, 1) := dk_78 (dk_at dksX0_operationCount_0 12 rfl rfl)
theorem dX0_operationCount_13 : decode cX0_operationCount 13 = .ok (.iconst 1, 1) := dk_4 (dk_at dksX0_operationCount_0 13 rfl rfl)
theorem dX0_operationCount_14 : decode cX0_operationCount 14 = .ok (.ireturn, 1) := dk_172 (dk_at dksX0_operationCount_0 14 rfl rfl)
theorem dX0_operationCount_15 : decode cX0_operationCount 15 = .ok (.iconst 0, 1) := dk_3 (dk_at dksX0_operationCount_0 15 rfl rfl)
theorem dX0_operationCount_16 : decode cX0_operationCount 16 = .ok (.ireturn, 1) := dk_172 (dk_at dksX0_operationCount_0 16 rfl rfl)
abbrev cX0_operation : ByteArray := method_5_code
def yX0_operation : MethodName := ⟨RX0, "operation", "(LBlockingShop;III[J)I"⟩
def dkwX0_operation_1 : List UInt8 := [172]
abbrev dktX0_operation_1 : List UInt8 := dkwX0_operation_1 ++ []
def dkwX0_operation_0 : List UInt8 := [25, 4, 3, 42, 27, 28, 29, 182, 0, 20, 133, 80, 167, 0, 11, 58, 5, 4, 172, 58, 5, 5, 172, 3]
abbrev dktX0_operation_0 : List UInt8 := dkwX0_operation_0 ++ dktX0_operation_1
theorem dksX0_operation_0 : cX0_operation.data.toList.drop 0 = dktX0_operation_0 := by decide +kernel
theorem dksX0_operation_1 : cX0_operation.data.toList.drop 24 = dktX0_operation_1 := dk_seg dksX0_operation_0 24 rfl rfl
theorem dX0_operation_0 : decode cX0_operation 0 = .ok (.aload 4, 2) := dk_25 4 (dk_at dksX0_operation_0 0 rfl rfl)
theorem dX0_operation_2 : decode cX0_operation 2 = .ok (.iconst 0, 1) := dk_3 (dk_at dksX0_operation_0 2 rfl rfl)
theorem dX0_operation_3 : decode cX0_operation 3 = .ok (.aload_n 0, 1) := dk_42 (dk_at dksX0_operation_0 3 rfl rfl)
theorem dX0_operation_4 : decode cX0_operation 4 = .ok (.iload_n 1, 1) := dk_27 (dk_at dksX0_operation_0 4 rfl rfl)
theorem dX0_operation_5 : decode cX0_operation 5 = .ok (.iload_n 2, 1) := dk_28 (dk_at dksX0_operation_0 5 rfl rfl)
theorem dX0_operation_6 : decode cX0_operation 6 = .ok (.iload_n 3, 1) := dk_29 (dk_at dksX0_operation_0 6 rfl rfl)
theorem dX0_operation_7 : decode cX0_operation 7 = .ok (.invokevirtual 20, 3) := dk_182 0 20 (dk_at dksX0_operation_0 7 rfl rfl)
theorem dX0_operation_10 : decode cX0_operation 10 = .ok (.i2l, 1) := dk_133 (dk_at dksX0_operation_0 10 rfl rfl)
theorem dX0_operation_11 : decode cX0_operation 11 = .ok (.lastore, 1) := dk_80 (dk_at dksX0_operation_0 11 rfl rfl)
theorem dX0_operation_12 : decode cX0_operation 12 = .ok (.goto 11, 3) := dk_167 0 11 (dk_at dksX0_operation_0 12 rfl rfl)
theorem dX0_operation_15 : decode cX0_operation 15 = .ok (.astore 5, 2) := dk_58 5 (dk_at dksX0_operation_0 15 rfl rfl)
theorem dX0_operation_17 : decode cX0_operation 17 = .ok (.iconst 1, 1) := dk_4 (dk_at dksX0_operation_0 17 rfl rfl)
theorem dX0_operation_18 : decode cX0_operation 18 = .ok (.ireturn, 1) := dk_172 (dk_at dksX0_operation_0 18 rfl rfl)
theorem dX0_operation_19 : decode cX0_operation 19 = .ok (.astore 5, 2) := dk_58 5 (dk_at dksX0_operation_0 19 rfl rfl)
theorem dX0_operation_21 : decode cX0_operation 21 = .ok (.iconst 2, 1) := dk_5 (dk_at dksX0_operation_0 21 rfl rfl)
theorem dX0_operation_22 : decode cX0_operation 22 = .ok (.ireturn, 1) := dk_172 (dk_at dksX0_operation_0 22 rfl rfl)
theorem dX0_operation_23 : decode cX0_operation 23 = .ok (.iconst 0, 1) := dk_3 (dk_at dksX0_operation_0 23 rfl rfl)
theorem dX0_operation_24 : decode cX0_operation 24 = .ok (.ireturn, 1) := dk_172 (dk_at dksX0_operation_1 0 rfl rfl)
abbrev cX0_orderLength : ByteArray := method_6_code
def yX0_orderLength : MethodName := ⟨RX0, "orderLength", "(LBlockingShop;I[J)I"⟩
def dkwX0_orderLength_0 : List UInt8 := [44, 3, 42, 27, 182, 0, 24, 133, 80, 167, 0, 6, 78, 4, 172, 3, 172]
abbrev dktX0_orderLength_0 : List UInt8 := dkwX0_orderLength_0 ++ []
theorem dksX0_orderLength_0 : cX0_orderLength.data.toList.drop 0 = dktX0_orderLength_0 := by decide +kernel
theorem dX0_orderLength_0 : decode cX0_orderLength 0 = .ok (.aload_n 2, 1) := dk_44 (dk_at dksX0_orderLength_0 0 rfl rfl)
theorem dX0_orderLength_1 : decode cX0_orderLength 1 = .ok (.iconst 0, 1) := dk_3 (dk_at dksX0_orderLength_0 1 rfl rfl)
theorem dX0_orderLength_2 : decode cX0_orderLength 2 = .ok (.aload_n 0, 1) := dk_42 (dk_at dksX0_orderLength_0 2 rfl rfl)
theorem dX0_orderLength_3 : decode cX0_orderLength 3 = .ok (.iload_n 1, 1) := dk_27 (dk_at dksX0_orderLength_0 3 rfl rfl)
theorem dX0_orderLength_4 : decode cX0_orderLength 4 = .ok (.invokevirtual 24, 3) := dk_182 0 24 (dk_at dksX0_orderLength_0 4 rfl rfl)
theorem dX0_orderLength_7 : decode cX0_orderLength 7 = .ok (.i2l, 1) := dk_133 (dk_at dksX0_orderLength_0 7 rfl rfl)
theorem dX0_orderLength_8 : decode cX0_orderLength 8 = .ok (.lastore, 1) := dk_80 (dk_at dksX0_orderLength_0 8 rfl rfl)
theorem dX0_orderLength_9 : decode cX0_orderLength 9 = .ok (.goto 6, 3) := dk_167 0 6 (dk_at dksX0_orderLength_0 9 rfl rfl)
theorem dX0_orderLength_12 : decode cX0_orderLength 12 = .ok (.astore_n 3, 1) := dk_78 (dk_at dksX0_orderLength_0 12 rfl rfl)
theorem dX0_orderLength_13 : decode cX0_orderLength 13 = .ok (.iconst 1, 1) := dk_4 (dk_at dksX0_orderLength_0 13 rfl rfl)
theorem dX0_orderLength_14 : decode cX0_orderLength 14 = .ok (.ireturn, 1) := dk_172 (dk_at dksX0_orderLength_0 14 rfl rfl)
theorem dX0_orderLength_15 : decode cX0_orderLength 15 = .ok (.iconst 0, 1) := dk_3 (dk_at dksX0_orderLength_0 15 rfl rfl)
theorem dX0_orderLength_16 : decode cX0_orderLength 16 = .ok (.ireturn, 1) := dk_172 (dk_at dksX0_orderLength_0 16 rfl rfl)
abbrev cX0_orderAt : ByteArray := method_7_code
def yX0_orderAt : MethodName := ⟨RX0, "orderAt", "(LBlockingShop;II[J)I"⟩
def dkwX0_orderAt_0 : List UInt8 := [45, 3, 42, 27, 28, 182, 0, 27, 133, 80, 167, 0, 7, 58, 4, 4, 172, 3, 172]
abbrev dktX0_orderAt_0 : List UInt8 := dkwX0_orderAt_0 ++ []
theorem dksX0_orderAt_0 : cX0_orderAt.data.toList.drop 0 = dktX0_orderAt_0 := by decide +kernel
theorem dX0_orderAt_0 : decode cX0_orderAt 0 = .ok (.aload_n 3, 1) := dk_45 (dk_at dksX0_orderAt_0 0 rfl rfl)
theorem dX0_orderAt_1 : decode cX0_orderAt 1 = .ok (.iconst 0, 1) := dk_3 (dk_at dksX0_orderAt_0 1 rfl rfl)
theorem dX0_orderAt_2 : decode cX0_orderAt 2 = .ok (.aload_n 0, 1) := dk_42 (dk_at dksX0_orderAt_0 2 rfl rfl)
theorem dX0_orderAt_3 : decode cX0_orderAt 3 = .ok (.iload_n 1, 1) := dk_27 (dk_at dksX0_orderAt_0 3 rfl rfl)
theorem dX0_orderAt_4 : decode cX0_orderAt 4 = .ok (.iload_n 2, 1) := dk_28 (dk_at dksX0_orderAt_0 4 rfl rfl)
theorem dX0_orderAt_5 : decode cX0_orderAt 5 = .ok (.invokevirtual 27, 3) := dk_182 0 27 (dk_at dksX0_orderAt_0 5 rfl rfl)
theorem dX0_orderAt_8 : decode cX0_orderAt 8 = .ok (.i2l, 1) := dk_133 (dk_at dksX0_orderAt_0 8 rfl rfl)
theorem dX0_orderAt_9 : decode cX0_orderAt 9 = .ok (.lastore, 1) := dk_80 (dk_at dksX0_orderAt_0 9 rfl rfl)
theorem dX0_orderAt_10 : decode cX0_orderAt 10 = .ok (.goto 7, 3) := dk_167 0 7 (dk_at dksX0_orderAt_0 10 rfl rfl)
theorem dX0_orderAt_13 : decode cX0_orderAt 13 = .ok (.astore 4, 2) := dk_58 4 (dk_at dksX0_orderAt_0 13 rfl rfl)
theorem dX0_orderAt_15 : decode cX0_orderAt 15 = .ok (.iconst 1, 1) := dk_4 (dk_at dksX0_orderAt_0 15 rfl rfl)
theorem dX0_orderAt_16 : decode cX0_orderAt 16 = .ok (.ireturn, 1) := dk_172 (dk_at dksX0_orderAt_0 16 rfl rfl)
theorem dX0_orderAt_17 : decode cX0_orderAt 17 = .ok (.iconst 0, 1) := dk_3 (dk_at dksX0_orderAt_0 17 rfl rfl)
theorem dX0_orderAt_18 : decode cX0_orderAt 18 = .ok (.ireturn, 1) := dk_172 (dk_at dksX0_orderAt_0 18 rfl rfl)
abbrev cX0_start : ByteArray := method_8_code
def yX0_start : MethodName := ⟨RX0, "start", "(LBlockingShop;II[J)I"⟩
def dkwX0_start_0 : List UInt8 := [45, 3, 42, 27, 28, 182, 0, 31, 133, 80, 167, 0, 7, 58, 4, 4, 172, 3, 172]
abbrev dktX0_start_0 : List UInt8 := dkwX0_start_0 ++ []
theorem dksX0_start_0 : cX0_start.data.toList.drop 0 = dktX0_start_0 := by decide +kernel
theorem dX0_start_0 : decode cX0_start 0 = .ok (.aload_n 3, 1) := dk_45 (dk_at dksX0_start_0 0 rfl rfl)
theorem dX0_start_1 : decode cX0_start 1 = .ok (.iconst 0, 1) := dk_3 (dk_at dksX0_start_0 1 rfl rfl)
theorem dX0_start_2 : decode cX0_start 2 = .ok (.aload_n 0, 1) := dk_42 (dk_at dksX0_start_0 2 rfl rfl)
theorem dX0_start_3 : decode cX0_start 3 = .ok (.iload_n 1, 1) := dk_27 (dk_at dksX0_start_0 3 rfl rfl)
theorem dX0_start_4 : decode cX0_start 4 = .ok (.iload_n 2, 1) := dk_28 (dk_at dksX0_start_0 4 rfl rfl)
theorem dX0_start_5 : decode cX0_start 5 = .ok (.invokevirtual 31, 3) := dk_182 0 31 (dk_at dksX0_start_0 5 rfl rfl)
theorem dX0_start_8 : decode cX0_start 8 = .ok (.i2l, 1) := dk_133 (dk_at dksX0_start_0 8 rfl rfl)
theorem dX0_start_9 : decode cX0_start 9 = .ok (.lastore, 1) := dk_80 (dk_at dksX0_start_0 9 rfl rfl)
theorem dX0_start_10 : decode cX0_start 10 = .ok (.goto 7, 3) := dk_167 0 7 (dk_at dksX0_start_0 10 rfl rfl)
theorem dX0_start_13 : decode cX0_start 13 = .ok (.astore 4, 2) := dk_58 4 (dk_at dksX0_start_0 13 rfl rfl)
theorem dX0_start_15 : decode cX0_start 15 = .ok (.iconst 1, 1) := dk_4 (dk_at dksX0_start_0 15 rfl rfl)
theorem dX0_start_16 : decode cX0_start 16 = .ok (.ireturn, 1) := dk_172 (dk_at dksX0_start_0 16 rfl rfl)
theorem dX0_start_17 : decode cX0_start 17 = .ok (.iconst 0, 1) := dk_3 (dk_at dksX0_start_0 17 rfl rfl)
theorem dX0_start_18 : decode cX0_start 18 = .ok (.ireturn, 1) := dk_172 (dk_at dksX0_start_0 18 rfl rfl)
abbrev cX0_leave : ByteArray := method_9_code
def yX0_leave : MethodName := ⟨RX0, "leave", "(LBlockingShop;II[J)I"⟩
def dkwX0_leave_0 : List UInt8 := [45, 3, 42, 27, 28, 182, 0, 34, 133, 80, 167, 0, 7, 58, 4, 4, 172, 3, 172]
abbrev dktX0_leave_0 : List UInt8 := dkwX0_leave_0 ++ []
theorem dksX0_leave_0 : cX0_leave.data.toList.drop 0 = dktX0_leave_0 := by decide +kernel
theorem dX0_leave_0 : decode cX0_leave 0 = .ok (.aload_n 3, 1) := dk_45 (dk_at dksX0_leave_0 0 rfl rfl)
theorem dX0_leave_1 : decode cX0_leave 1 = .ok (.iconst 0, 1) := dk_3 (dk_at dksX0_leave_0 1 rfl rfl)
theorem dX0_leave_2 : decode cX0_leave 2 = .ok (.aload_n 0, 1) := dk_42 (dk_at dksX0_leave_0 2 rfl rfl)
theorem dX0_leave_3 : decode cX0_leave 3 = .ok (.iload_n 1, 1) := dk_27 (dk_at dksX0_leave_0 3 rfl rfl)
theorem dX0_leave_4 : decode cX0_leave 4 = .ok (.iload_n 2, 1) := dk_28 (dk_at dksX0_leave_0 4 rfl rfl)
theorem dX0_leave_5 : decode cX0_leave 5 = .ok (.invokevirtual 34, 3) := dk_182 0 34 (dk_at dksX0_leave_0 5 rfl rfl)
theorem dX0_leave_8 : decode cX0_leave 8 = .ok (.i2l, 1) := dk_133 (dk_at dksX0_leave_0 8 rfl rfl)
theorem dX0_leave_9 : decode cX0_leave 9 = .ok (.lastore, 1) := dk_80 (dk_at dksX0_leave_0 9 rfl rfl)
theorem dX0_leave_10 : decode cX0_leave 10 = .ok (.goto 7, 3) := dk_167 0 7 (dk_at dksX0_leave_0 10 rfl rfl)
theorem dX0_leave_13 : decode cX0_leave 13 = .ok (.astore 4, 2) := dk_58 4 (dk_at dksX0_leave_0 13 rfl rfl)
theorem dX0_leave_15 : decode cX0_leave 15 = .ok (.iconst 1, 1) := dk_4 (dk_at dksX0_leave_0 15 rfl rfl)
theorem dX0_leave_16 : decode cX0_leave 16 = .ok (.ireturn, 1) := dk_172 (dk_at dksX0_leave_0 16 rfl rfl)
theorem dX0_leave_17 : decode cX0_leave 17 = .ok (.iconst 0, 1) := dk_3 (dk_at dksX0_leave_0 17 rfl rfl)
theorem dX0_leave_18 : decode cX0_leave 18 = .ok (.ireturn, 1) := dk_172 (dk_at dksX0_leave_0 18 rfl rfl)
abbrev cX0_completion : ByteArray := method_10_code
def yX0_completion : MethodName := ⟨RX0, "completion", "(LBlockingShop;I[J)I"⟩
def dkwX0_completion_0 : List UInt8 := [44, 3, 42, 27, 182, 0, 37, 133, 80, 167, 0, 6, 78, 4, 172, 3, 172]
abbrev dktX0_completion_0 : List UInt8 := dkwX0_completion_0 ++ []
theorem dksX0_completion_0 : cX0_completion.data.toList.drop 0 = dktX0_completion_0 := by decide +kernel
theorem dX0_completion_0 : decode cX0_completion 0 = .ok (.aload_n 2, 1) := dk_44 (dk_at dksX0_completion_0 0 rfl rfl)
theorem dX0_completion_1 : decode cX0_completion 1 = .ok (.iconst 0, 1) := dk_3 (dk_at dksX0_completion_0 1 rfl rfl)
theorem dX0_completion_2 : decode cX0_completion 2 = .ok (.aload_n 0, 1) := dk_42 (dk_at dksX0_completion_0 2 rfl rfl)
theorem dX0_completion_3 : decode cX0_completion 3 = .ok (.iload_n 1, 1) := dk_27 (dk_at dksX0_completion_0 3 rfl rfl)
theorem dX0_completion_4 : decode cX0_completion 4 = .ok (.invokevirtual 37, 3) := dk_182 0 37 (dk_at dksX0_completion_0 4 rfl rfl)
theorem dX0_completion_7 : decode cX0_completion 7 = .ok (.i2l, 1) := dk_133 (dk_at dksX0_completion_0 7 rfl rfl)
theorem dX0_completion_8 : decode cX0_completion 8 = .ok (.lastore, 1) := dk_80 (dk_at dksX0_completion_0 8 rfl rfl)
theorem dX0_completion_9 : decode cX0_completion 9 = .ok (.goto 6, 3) := dk_167 0 6 (dk_at dksX0_completion_0 9 rfl rfl)
theorem dX0_completion_12 : decode cX0_completion 12 = .ok (.astore_n 3, 1) := dk_78 (dk_at dksX0_completion_0 12 rfl rfl)
theorem dX0_completion_13 : decode cX0_completion 13 = .ok (.iconst 1, 1) := dk_4 (dk_at dksX0_completion_0 13 rfl rfl)
theorem dX0_completion_14 : decode cX0_completion 14 = .ok (.ireturn, 1) := dk_172 (dk_at dksX0_completion_0 14 rfl rfl)
theorem dX0_completion_15 : decode cX0_completion 15 = .ok (.iconst 0, 1) := dk_3 (dk_at dksX0_completion_0 15 rfl rfl)
theorem dX0_completion_16 : decode cX0_completion 16 = .ok (.ireturn, 1) := dk_172 (dk_at dksX0_completion_0 16 rfl rfl)
abbrev cX0_jobCost : ByteArray := method_11_code
def yX0_jobCost : MethodName := ⟨RX0, "jobCost", "(LBlockingShop;I[J)I"⟩
def dkwX0_jobCost_0 : List UInt8 := [44, 3, 42, 27, 182, 0, 40, 133, 80, 167, 0, 6, 78, 4, 172, 3, 172]
abbrev dktX0_jobCost_0 : List UInt8 := dkwX0_jobCost_0 ++ []
theorem dksX0_jobCost_0 : cX0_jobCost.data.toList.drop 0 = dktX0_jobCost_0 := by decide +kernel
theorem dX0_jobCost_0 : decode cX0_jobCost 0 = .ok (.aload_n 2, 1) := dk_44 (dk_at dksX0_jobCost_0 0 rfl rfl)
theorem dX0_jobCost_1 : decode cX0_jobCost 1 = .ok (.iconst 0, 1) := dk_3 (dk_at dksX0_jobCost_0 1 rfl rfl)
theorem dX0_jobCost_2 : decode cX0_jobCost 2 = .ok (.aload_n 0, 1) := dk_42 (dk_at dksX0_jobCost_0 2 rfl rfl)
theorem dX0_jobCost_3 : decode cX0_jobCost 3 = .ok (.iload_n 1, 1) := dk_27 (dk_at dksX0_jobCost_0 3 rfl rfl)
theorem dX0_jobCost_4 : decode cX0_jobCost 4 = .ok (.invokevirtual 40, 3) := dk_182 0 40 (dk_at dksX0_jobCost_0 4 rfl rfl)
theorem dX0_jobCost_7 : decode cX0_jobCost 7 = .ok (.i2l, 1) := dk_133 (dk_at dksX0_jobCost_0 7 rfl rfl)
theorem dX0_jobCost_8 : decode cX0_jobCost 8 = .ok (.lastore, 1) := dk_80 (dk_at dksX0_jobCost_0 8 rfl rfl)
theorem dX0_jobCost_9 : decode cX0_jobCost 9 = .ok (.goto 6, 3) := dk_167 0 6 (dk_at dksX0_jobCost_0 9 rfl rfl)
theorem dX0_jobCost_12 : decode cX0_jobCost 12 = .ok (.astore_n 3, 1) := dk_78 (dk_at dksX0_jobCost_0 12 rfl rfl)
theorem dX0_jobCost_13 : decode cX0_jobCost 13 = .ok (.iconst 1, 1) := dk_4 (dk_at dksX0_jobCost_0 13 rfl rfl)
theorem dX0_jobCost_14 : decode cX0_jobCost 14 = .ok (.ireturn, 1) := dk_172 (dk_at dksX0_jobCost_0 14 rfl rfl)
theorem dX0_jobCost_15 : decode cX0_jobCost 15 = .ok (.iconst 0, 1) := dk_3 (dk_at dksX0_jobCost_0 15 rfl rfl)
theorem dX0_jobCost_16 : decode cX0_jobCost 16 = .ok (.ireturn, 1) := dk_172 (dk_at dksX0_jobCost_0 16 rfl rfl)
abbrev cX0_blockedTime : ByteArray := method_12_code
def yX0_blockedTime : MethodName := ⟨RX0, "blockedTime", "(LBlockingShop;I[J)I"⟩
def dkwX0_blockedTime_0 : List UInt8 := [44, 3, 42, 27, 182, 0, 43, 133, 80, 167, 0, 6, 78, 4, 172, 3, 172]
abbrev dktX0_blockedTime_0 : List UInt8 := dkwX0_blockedTime_0 ++ []
theorem dksX0_blockedTime_0 : cX0_blockedTime.data.toList.drop 0 = dktX0_blockedTime_0 := by decide +kernel
theorem dX0_blockedTime_0 : decode cX0_blockedTime 0 = .ok (.aload_n 2, 1) := dk_44 (dk_at dksX0_blockedTime_0 0 rfl rfl)
theorem dX0_blockedTime_1 : decode cX0_blockedTime 1 = .ok (.iconst 0, 1) := dk_3 (dk_at dksX0_blockedTime_0 1 rfl rfl)
theorem dX0_blockedTime_2 : decode cX0_blockedTime 2 = .ok (.aload_n 0, 1) := dk_42 (dk_at dksX0_blockedTime_0 2 rfl rfl)
theorem dX0_blockedTime_3 : decode cX0_blockedTime 3 = .ok (.iload_n 1, 1) := dk_27 (dk_at dksX0_blockedTime_0 3 rfl rfl)
theorem dX0_blockedTime_4 : decode cX0_blockedTime 4 = .ok (.invokevirtual 43, 3) := dk_182 0 43 (dk_at dksX0_blockedTime_0 4 rfl rfl)
theorem dX0_blockedTime_7 : decode cX0_blockedTime 7 = .ok (.i2l, 1) := dk_133 (dk_at dksX0_blockedTime_0 7 rfl rfl)
theorem dX0_blockedTime_8 : decode cX0_blockedTime 8 = .ok (.lastore, 1) := dk_80 (dk_at dksX0_blockedTime_0 8 rfl rfl)
theorem dX0_blockedTime_9 : decode cX0_blockedTime 9 = .ok (.goto 6, 3) := dk_167 0 6 (dk_at dksX0_blockedTime_0 9 rfl rfl)
theorem dX0_blockedTime_12 : decode cX0_blockedTime 12 = .ok (.astore_n 3, 1) := dk_78 (dk_at dksX0_blockedTime_0 12 rfl rfl)
theorem dX0_blockedTime_13 : decode cX0_blockedTime 13 = .ok (.iconst 1, 1) := dk_4 (dk_at dksX0_blockedTime_0 13 rfl rfl)
theorem dX0_blockedTime_14 : decode cX0_blockedTime 14 = .ok (.ireturn, 1) := dk_172 (dk_at dksX0_blockedTime_0 14 rfl rfl)
theorem dX0_blockedTime_15 : decode cX0_blockedTime 15 = .ok (.iconst 0, 1) := dk_3 (dk_at dksX0_blockedTime_0 15 rfl rfl)
theorem dX0_blockedTime_16 : decode cX0_blockedTime 16 = .ok (.ireturn, 1) := dk_172 (dk_at dksX0_blockedTime_0 16 rfl rfl)
abbrev cX0_critical : ByteArray := method_13_code
def yX0_critical : MethodName := ⟨RX0, "critical", "(LBlockingShop;I[J)I"⟩
def dkwX0_critical_0 : List UInt8 := [44, 3, 42, 27, 182, 0, 46, 133, 80, 167, 0, 6, 78, 4, 172, 3, 172]
abbrev dktX0_critical_0 : List UInt8 := dkwX0_critical_0 ++ []
theorem dksX0_critical_0 : cX0_critical.data.toList.drop 0 = dktX0_critical_0 := by decide +kernel
theorem dX0_critical_0 : decode cX0_critical 0 = .ok (.aload_n 2, 1) := dk_44 (dk_at dksX0_critical_0 0 rfl rfl)
theorem dX0_critical_1 : decode cX0_critical 1 = .ok (.iconst 0, 1) := dk_3 (dk_at dksX0_critical_0 1 rfl rfl)
theorem dX0_critical_2 : decode cX0_critical 2 = .ok (.aload_n 0, 1) := dk_42 (dk_at dksX0_critical_0 2 rfl rfl)
theorem dX0_critical_3 : decode cX0_critical 3 = .ok (.iload_n 1, 1) := dk_27 (dk_at dksX0_critical_0 3 rfl rfl)
theorem dX0_critical_4 : decode cX0_critical 4 = .ok (.invokevirtual 46, 3) := dk_182 0 46 (dk_at dksX0_critical_0 4 rfl rfl)
theorem dX0_critical_7 : decode cX0_critical 7 = .ok (.i2l, 1) := dk_133 (dk_at dksX0_critical_0 7 rfl rfl)
theorem dX0_critical_8 : decode cX0_critical 8 = .ok (.lastore, 1) := dk_80 (dk_at dksX0_critical_0 8 rfl rfl)
theorem dX0_critical_9 : decode cX0_critical 9 = .ok (.goto 6, 3) := dk_167 0 6 (dk_at dksX0_critical_0 9 rfl rfl)
theorem dX0_critical_12 : decode cX0_critical 12 = .ok (.astore_n 3, 1) := dk_78 (dk_at dksX0_critical_0 12 rfl rfl)
theorem dX0_critical_13 : decode cX0_critical 13 = .ok (.iconst 1, 1) := dk_4 (dk_at dksX0_critical_0 13 rfl rfl)
theorem dX0_critical_14 : decode cX0_critical 14 = .ok (.ireturn, 1) := dk_172 (dk_at dksX0_critical_0 14 rfl rfl)
theorem dX0_critical_15 : decode cX0_critical 15 = .ok (.iconst 0, 1) := dk_3 (dk_at dksX0_critical_0 15 rfl rfl)
theorem dX0_critical_16 : decode cX0_critical 16 = .ok (.ireturn, 1) := dk_172 (dk_at dksX0_critical_0 16 rfl rfl)
abbrev cX0_deadlocks : ByteArray := method_14_code
def yX0_deadlocks : MethodName := ⟨RX0, "deadlocks", "(LBlockingShop;II[J)I"⟩
def dkwX0_deadlocks_1 : List UInt8 := [3, 172]
abbrev dktX0_deadlocks_1 : List UInt8 := dkwX0_deadlocks_1 ++ []
def dkwX0_deadlocks_0 : List UInt8 := [45, 3, 42, 27, 28, 182, 0, 51, 153, 0, 7, 10, 167, 0, 4, 9, 80, 167, 0, 7, 58, 4, 4, 172]
abbrev dktX0_deadlocks_0 : List UInt8 := dkwX0_deadlocks_0 ++ dktX0_deadlocks_1
theorem dksX0_deadlocks_0 : cX0_deadlocks.data.toList.drop 0 = dktX0_deadlocks_0 := by decide +kernel
theorem dksX0_deadlocks_1 : cX0_deadlocks.data.toList.drop 24 = dktX0_deadlocks_1 := dk_seg dksX0_deadlocks_0 24 rfl rfl
theorem dX0_deadlocks_0 : decode cX0_deadlocks 0 = .ok (.aload_n 3, 1) := dk_45 (dk_at dksX0_deadlocks_0 0 rfl rfl)
theorem dX0_deadlocks_1 : decode cX0_deadlocks 1 = .ok (.iconst 0, 1) := dk_3 (dk_at dksX0_deadlocks_0 1 rfl rfl)
theorem dX0_deadlocks_2 : decode cX0_deadlocks 2 = .ok (.aload_n 0, 1) := dk_42 (dk_at dksX0_deadlocks_0 2 rfl rfl)
theorem dX0_deadlocks_3 : decode cX0_deadlocks 3 = .ok (.iload_n 1, 1) := dk_27 (dk_at dksX0_deadlocks_0 3 rfl rfl)
theorem dX0_deadlocks_4 : decode cX0_deadlocks 4 = .ok (.iload_n 2, 1) := dk_28 (dk_at dksX0_deadlocks_0 4 rfl rfl)
theorem dX0_deadlocks_5 : decode cX0_deadlocks 5 = .ok (.invokevirtual 51, 3) := dk_182 0 51 (dk_at dksX0_deadlocks_0 5 rfl rfl)
theorem dX0_deadlocks_8 : decode cX0_deadlocks 8 = .ok (.ifCond .eq 7, 3) := dk_153 0 7 (dk_at dksX0_deadlocks_0 8 rfl rfl)
theorem dX0_deadlocks_11 : decode cX0_deadlocks 11 = .ok (.lconst 1, 1) := dk_10 (dk_at dksX0_deadlocks_0 11 rfl rfl)
theorem dX0_deadlocks_12 : decode cX0_deadlocks 12 = .ok (.goto 4, 3) := dk_167 0 4 (dk_at dksX0_deadlocks_0 12 rfl rfl)
theorem dX0_deadlocks_15 : decode cX0_deadlocks 15 = .ok (.lconst 0, 1) := dk_9 (dk_at dksX0_deadlocks_0 15 rfl rfl)
theorem dX0_deadlocks_16 : decode cX0_deadlocks 16 = .ok (.lastore, 1) := dk_80 (dk_at dksX0_deadlocks_0 16 rfl rfl)
theorem dX0_deadlocks_17 : decode cX0_deadlocks 17 = .ok (.goto 7, 3) := dk_167 0 7 (dk_at dksX0_deadlocks_0 17 rfl rfl)
theorem dX0_deadlocks_20 : decode cX0_deadlocks 20 = .ok (.astore 4, 2) := dk_58 4 (dk_at dksX0_deadlocks_0 20 rfl rfl)
theorem dX0_deadlocks_22 : decode cX0_deadlocks 22 = .ok (.iconst 1, 1) := dk_4 (dk_at dksX0_deadlocks_0 22 rfl rfl)
theorem dX0_deadlocks_23 : decode cX0_deadlocks 23 = .ok (.ireturn, 1) := dk_172 (dk_at dksX0_deadlocks_0 23 rfl rfl)
theorem dX0_deadlocks_24 : decode cX0_deadlocks 24 = .ok (.iconst 0, 1) := dk_3 (dk_at dksX0_deadlocks_1 0 rfl rfl)
theorem dX0_deadlocks_25 : decode cX0_deadlocks 25 = .ok (.ireturn, 1) := dk_172 (dk_at dksX0_deadlocks_1 1 rfl rfl)
abbrev cX0_makespanAfter : ByteArray := method_15_code
def yX0_makespanAfter : MethodName := ⟨RX0, "makespanAfter", "(LBlockingShop;II[J)I"⟩
def dkwX0_makespanAfter_0 : List UInt8 := [45, 3, 42, 27, 28, 182, 0, 55, 133, 80, 167, 0, 7, 58, 4, 4, 172, 3, 172]
abbrev dktX0_makespanAfter_0 : List UInt8 := dkwX0_makespanAfter_0 ++ []
theorem dksX0_makespanAfter_0 : cX0_makespanAfter.data.toList.drop 0 = dktX0_makespanAfter_0 := by decide +kernel
theorem dX0_makespanAfter_0 : decode cX0_makespanAfter 0 = .ok (.aload_n 3, 1) := dk_45 (dk_at dksX0_makespanAfter_0 0 rfl rfl)
theorem dX0_makespanAfter_1 : decode cX0_makespanAfter 1 = .ok (.iconst 0, 1) := dk_3 (dk_at dksX0_makespanAfter_0 1 rfl rfl)
theorem dX0_makespanAfter_2 : decode cX0_makespanAfter 2 = .ok (.aload_n 0, 1) := dk_42 (dk_at dksX0_makespanAfter_0 2 rfl rfl)
theorem dX0_makespanAfter_3 : decode cX0_makespanAfter 3 = .ok (.iload_n 1, 1) := dk_27 (dk_at dksX0_makespanAfter_0 3 rfl rfl)
theorem dX0_makespanAfter_4 : decode cX0_makespanAfter 4 = .ok (.iload_n 2, 1) := dk_28 (dk_at dksX0_makespanAfter_0 4 rfl rfl)
theorem dX0_makespanAfter_5 : decode cX0_makespanAfter 5 = .ok (.invokevirtual 55, 3) := dk_182 0 55 (dk_at dksX0_makespanAfter_0 5 rfl rfl)
theorem dX0_makespanAfter_8 : decode cX0_makespanAfter 8 = .ok (.i2l, 1) := dk_133 (dk_at dksX0_makespanAfter_0 8 rfl rfl)
theorem dX0_makespanAfter_9 : decode cX0_makespanAfter 9 = .ok (.lastore, 1) := dk_80 (dk_at dksX0_makespanAfter_0 9 rfl rfl)
theorem dX0_makespanAfter_10 : decode cX0_makespanAfter 10 = .ok (.goto 7, 3) := dk_167 0 7 (dk_at dksX0_makespanAfter_0 10 rfl rfl)
theorem dX0_makespanAfter_13 : decode cX0_makespanAfter 13 = .ok (.astore 4, 2) := dk_58 4 (dk_at dksX0_makespanAfter_0 13 rfl rfl)
theorem dX0_makespanAfter_15 : decode cX0_makespanAfter 15 = .ok (.iconst 1, 1) := dk_4 (dk_at dksX0_makespanAfter_0 15 rfl rfl)
theorem dX0_makespanAfter_16 : decode cX0_makespanAfter 16 = .ok (.ireturn, 1) := dk_172 (dk_at dksX0_makespanAfter_0 16 rfl rfl)
theorem dX0_makespanAfter_17 : decode cX0_makespanAfter 17 = .ok (.iconst 0, 1) := dk_3 (dk_at dksX0_makespanAfter_0 17 rfl rfl)
theorem dX0_makespanAfter_18 : decode cX0_makespanAfter 18 = .ok (.ireturn, 1) := dk_172 (dk_at dksX0_makespanAfter_0 18 rfl rfl)
abbrev cX0_swap : ByteArray := method_16_code
def yX0_swap : MethodName := ⟨RX0, "swap", "(LBlockingShop;II[J)I"⟩
def dkwX0_swap_0 : List UInt8 := [45, 3, 42, 27, 28, 182, 0, 58, 133, 80, 167, 0, 11, 58, 4, 4, 172, 58, 4, 5, 172, 3, 172]
abbrev dktX0_swap_0 : List UInt8 := dkwX0_swap_0 ++ []
theorem dksX0_swap_0 : cX0_swap.data.toList.drop 0 = dktX0_swap_0 := by decide +kernel
theorem dX0_swap_0 : decode cX0_swap 0 = .ok (.aload_n 3, 1) := dk_45 (dk_at dksX0_swap_0 0 rfl rfl)
theorem dX0_swap_1 : decode cX0_swap 1 = .ok (.iconst 0, 1) := dk_3 (dk_at dksX0_swap_0 1 rfl rfl)
theorem dX0_swap_2 : decode cX0_swap 2 = .ok (.aload_n 0, 1) := dk_42 (dk_at dksX0_swap_0 2 rfl rfl)
theorem dX0_swap_3 : decode cX0_swap 3 = .ok (.iload_n 1, 1) := dk_27 (dk_at dksX0_swap_0 3 rfl rfl)
theorem dX0_swap_4 : decode cX0_swap 4 = .ok (.iload_n 2, 1) := dk_28 (dk_at dksX0_swap_0 4 rfl rfl)
theorem dX0_swap_5 : decode cX0_swap 5 = .ok (.invokevirtual 58, 3) := dk_182 0 58 (dk_at dksX0_swap_0 5 rfl rfl)
theorem dX0_swap_8 : decode cX0_swap 8 = .ok (.i2l, 1) := dk_133 (dk_at dksX0_swap_0 8 rfl rfl)
theorem dX0_swap_9 : decode cX0_swap 9 = .ok (.lastore, 1) := dk_80 (dk_at dksX0_swap_0 9 rfl rfl)
theorem dX0_swap_10 : decode cX0_swap 10 = .ok (.goto 11, 3) := dk_167 0 11 (dk_at dksX0_swap_0 10 rfl rfl)
theorem dX0_swap_13 : decode cX0_swap 13 = .ok (.astore 4, 2) := dk_58 4 (dk_at dksX0_swap_0 13 rfl rfl)
theorem dX0_swap_15 : decode cX0_swap 15 = .ok (.iconst 1, 1) := dk_4 (dk_at dksX0_swap_0 15 rfl rfl)
theorem dX0_swap_16 : decode cX0_swap 16 = .ok (.ireturn, 1) := dk_172 (dk_at dksX0_swap_0 16 rfl rfl)
theorem dX0_swap_17 : decode cX0_swap 17 = .ok (.astore 4, 2) := dk_58 4 (dk_at dksX0_swap_0 17 rfl rfl)
theorem dX0_swap_19 : decode cX0_swap 19 = .ok (.iconst 2, 1) := dk_5 (dk_at dksX0_swap_0 19 rfl rfl)
theorem dX0_swap_20 : decode cX0_swap 20 = .ok (.ireturn, 1) := dk_172 (dk_at dksX0_swap_0 20 rfl rfl)
theorem dX0_swap_21 : decode cX0_swap 21 = .ok (.iconst 0, 1) := dk_3 (dk_at dksX0_swap_0 21 rfl rfl)
theorem dX0_swap_22 : decode cX0_swap 22 = .ok (.ireturn, 1) := dk_172 (dk_at dksX0_swap_0 22 rfl rfl)
abbrev cX0_improve : ByteArray := method_17_code
def yX0_improve : MethodName := ⟨RX0, "improve", "(LBlockingShop;I[J)I"⟩
def dkwX0_improve_0 : List UInt8 := [44, 3, 42, 27, 182, 0, 63, 133, 80, 167, 0, 6, 78, 4, 172, 3, 172]
abbrev dktX0_improve_0 : List UInt8 := dkwX0_improve_0 ++ []
theorem dksX0_improve_0 : cX0_improve.data.toList.drop 0 = dktX0_improve_0 := by decide +kernel
theorem dX0_improve_0 : decode cX0_improve 0 = .ok (.aload_n 2, 1) := dk_44 (dk_at dksX0_improve_0 0 rfl rfl)
theorem dX0_improve_1 : decode cX0_improve 1 = .ok (.iconst 0, 1) := dk_3 (dk_at dksX0_improve_0 1 rfl rfl)
theorem dX0_improve_2 : decode cX0_improve 2 = .ok (.aload_n 0, 1) := dk_42 (dk_at dksX0_improve_0 2 rfl rfl)
theorem dX0_improve_3 : decode cX0_improve 3 = .ok (.iload_n 1, 1) := dk_27 (dk_at dksX0_improve_0 3 rfl rfl)
theorem dX0_improve_4 : decode cX0_improve 4 = .ok (.invokevirtual 63, 3) := dk_182 0 63 (dk_at dksX0_improve_0 4 rfl rfl)
theorem dX0_improve_7 : decode cX0_improve 7 = .ok (.i2l, 1) := dk_133 (dk_at dksX0_improve_0 7 rfl rfl)
theorem dX0_improve_8 : decode cX0_improve 8 = .ok (.lastore, 1) := dk_80 (dk_at dksX0_improve_0 8 rfl rfl)
theorem dX0_improve_9 : decode cX0_improve 9 = .ok (.goto 6, 3) := dk_167 0 6 (dk_at dksX0_improve_0 9 rfl rfl)
theorem dX0_improve_12 : decode cX0_improve 12 = .ok (.astore_n 3, 1) := dk_78 (dk_at dksX0_improve_0 12 rfl rfl)
theorem dX0_improve_13 : decode cX0_improve 13 = .ok (.iconst 1, 1) := dk_4 (dk_at dksX0_improve_0 13 rfl rfl)
theorem dX0_improve_14 : decode cX0_improve 14 = .ok (.ireturn, 1) := dk_172 (dk_at dksX0_improve_0 14 rfl rfl)
theorem dX0_improve_15 : decode cX0_improve 15 = .ok (.iconst 0, 1) := dk_3 (dk_at dksX0_improve_0 15 rfl rfl)
theorem dX0_improve_16 : decode cX0_improve 16 = .ok (.ireturn, 1) := dk_172 (dk_at dksX0_improve_0 16 rfl rfl)
abbrev cX0_place : ByteArray := method_18_code
def yX0_place : MethodName := ⟨RX0, "place", "(LBlockingShop;III[J)I"⟩
def dkwX0_place_1 : List UInt8 := [172]
abbrev dktX0_place_1 : List UInt8 := dkwX0_place_1 ++ []
def dkwX0_place_0 : List UInt8 := [25, 4, 3, 42, 27, 28, 29, 182, 0, 66, 133, 80, 167, 0, 11, 58, 5, 4, 172, 58, 5, 5, 172, 3]
abbrev dktX0_place_0 : List UInt8 := dkwX0_place_0 ++ dktX0_place_1
theorem dksX0_place_0 : cX0_place.data.toList.drop 0 = dktX0_place_0 := by decide +kernel
theorem dksX0_place_1 : cX0_place.data.toList.drop 24 = dktX0_place_1 := dk_seg dksX0_place_0 24 rfl rfl
theorem dX0_place_0 : decode cX0_place 0 = .ok (.aload 4, 2) := dk_25 4 (dk_at dksX0_place_0 0 rfl rfl)
theorem dX0_place_2 : decode cX0_place 2 = .ok (.iconst 0, 1) := dk_3 (dk_at dksX0_place_0 2 rfl rfl)
theorem dX0_place_3 : decode cX0_place 3 = .ok (.aload_n 0, 1) := dk_42 (dk_at dksX0_place_0 3 rfl rfl)
theorem dX0_place_4 : decode cX0_place 4 = .ok (.iload_n 1, 1) := dk_27 (dk_at dksX0_place_0 4 rfl rfl)
theorem dX0_place_5 : decode cX0_place 5 = .ok (.iload_n 2, 1) := dk_28 (dk_at dksX0_place_0 5 rfl rfl)
theorem dX0_place_6 : decode cX0_place 6 = .ok (.iload_n 3, 1) := dk_29 (dk_at dksX0_place_0 6 rfl rfl)
theorem dX0_place_7 : decode cX0_place 7 = .ok (.invokevirtual 66, 3) := dk_182 0 66 (dk_at dksX0_place_0 7 rfl rfl)
theorem dX0_place_10 : decode cX0_place 10 = .ok (.i2l, 1) := dk_133 (dk_at dksX0_place_0 10 rfl rfl)
theorem dX0_place_11 : decode cX0_place 11 = .ok (.lastore, 1) := dk_80 (dk_at dksX0_place_0 11 rfl rfl)
theorem dX0_place_12 : decode cX0_place 12 = .ok (.goto 11, 3) := dk_167 0 11 (dk_at dksX0_place_0 12 rfl rfl)
theorem dX0_place_15 : decode cX0_place 15 = .ok (.astore 5, 2) := dk_58 5 (dk_at dksX0_place_0 15 rfl rfl)
theorem dX0_place_17 : decode cX0_place 17 = .ok (.iconst 1, 1) := dk_4 (dk_at dksX0_place_0 17 rfl rfl)
theorem dX0_place_18 : decode cX0_place 18 = .ok (.ireturn, 1) := dk_172 (dk_at dksX0_place_0 18 rfl rfl)
theorem dX0_place_19 : decode cX0_place 19 = .ok (.astore 5, 2) := dk_58 5 (dk_at dksX0_place_0 19 rfl rfl)
theorem dX0_place_21 : decode cX0_place 21 = .ok (.iconst 2, 1) := dk_5 (dk_at dksX0_place_0 21 rfl rfl)
theorem dX0_place_22 : decode cX0_place 22 = .ok (.ireturn, 1) := dk_172 (dk_at dksX0_place_0 22 rfl rfl)
theorem dX0_place_23 : decode cX0_place 23 = .ok (.iconst 0, 1) := dk_3 (dk_at dksX0_place_0 23 rfl rfl)
theorem dX0_place_24 : decode cX0_place 24 = .ok (.ireturn, 1) := dk_172 (dk_at dksX0_place_1 0 rfl rfl)
abbrev cX0_setDuration : ByteArray := method_19_code
def yX0_setDuration : MethodName := ⟨RX0, "setDuration", "(LBlockingShop;III[J)I"⟩
def dkwX0_setDuration_1 : List UInt8 := [172]
abbrev dktX0_setDuration_1 : List UInt8 := dkwX0_setDuration_1 ++ []
def dkwX0_setDuration_0 : List UInt8 := [25, 4, 3, 42, 27, 28, 29, 182, 0, 69, 133, 80, 167, 0, 11, 58, 5, 4, 172, 58, 5, 5, 172, 3]
abbrev dktX0_setDuration_0 : List UInt8 := dkwX0_setDuration_0 ++ dktX0_setDuration_1
theorem dksX0_setDuration_0 : cX0_setDuration.data.toList.drop 0 = dktX0_setDuration_0 := by decide +kernel
theorem dksX0_setDuration_1 : cX0_setDuration.data.toList.drop 24 = dktX0_setDuration_1 := dk_seg dksX0_setDuration_0 24 rfl rfl
theorem dX0_setDuration_0 : decode cX0_setDuration 0 = .ok (.aload 4, 2) := dk_25 4 (dk_at dksX0_setDuration_0 0 rfl rfl)
theorem dX0_setDuration_2 : decode cX0_setDuration 2 = .ok (.iconst 0, 1) := dk_3 (dk_at dksX0_setDuration_0 2 rfl rfl)
theorem dX0_setDuration_3 : decode cX0_setDuration 3 = .ok (.aload_n 0, 1) := dk_42 (dk_at dksX0_setDuration_0 3 rfl rfl)
theorem dX0_setDuration_4 : decode cX0_setDuration 4 = .ok (.iload_n 1, 1) := dk_27 (dk_at dksX0_setDuration_0 4 rfl rfl)
theorem dX0_setDuration_5 : decode cX0_setDuration 5 = .ok (.iload_n 2, 1) := dk_28 (dk_at dksX0_setDuration_0 5 rfl rfl)
theorem dX0_setDuration_6 : decode cX0_setDuration 6 = .ok (.iload_n 3, 1) := dk_29 (dk_at dksX0_setDuration_0 6 rfl rfl)
theorem dX0_setDuration_7 : decode cX0_setDuration 7 = .ok (.invokevirtual 69, 3) := dk_182 0 69 (dk_at dksX0_setDuration_0 7 rfl rfl)
theorem dX0_setDuration_10 : decode cX0_setDuration 10 = .ok (.i2l, 1) := dk_133 (dk_at dksX0_setDuration_0 10 rfl rfl)
theorem dX0_setDuration_11 : decode cX0_setDuration 11 = .ok (.lastore, 1) := dk_80 (dk_at dksX0_setDuration_0 11 rfl rfl)
theorem dX0_setDuration_12 : decode cX0_setDuration 12 = .ok (.goto 11, 3) := dk_167 0 11 (dk_at dksX0_setDuration_0 12 rfl rfl)
theorem dX0_setDuration_15 : decode cX0_setDuration 15 = .ok (.astore 5, 2) := dk_58 5 (dk_at dksX0_setDuration_0 15 rfl rfl)
theorem dX0_setDuration_17 : decode cX0_setDuration 17 = .ok (.iconst 1, 1) := dk_4 (dk_at dksX0_setDuration_0 17 rfl rfl)
theorem dX0_setDuration_18 : decode cX0_setDuration 18 = .ok (.ireturn, 1) := dk_172 (dk_at dksX0_setDuration_0 18 rfl rfl)
theorem dX0_setDuration_19 : decode cX0_setDuration 19 = .ok (.astore 5, 2) := dk_58 5 (dk_at dksX0_setDuration_0 19 rfl rfl)
theorem dX0_setDuration_21 : decode cX0_setDuration 21 = .ok (.iconst 2, 1) := dk_5 (dk_at dksX0_setDuration_0 21 rfl rfl)
theorem dX0_setDuration_22 : decode cX0_setDuration 22 = .ok (.ireturn, 1) := dk_172 (dk_at dksX0_setDuration_0 22 rfl rfl)
theorem dX0_setDuration_23 : decode cX0_setDuration 23 = .ok (.iconst 0, 1) := dk_3 (dk_at dksX0_setDuration_0 23 rfl rfl)
theorem dX0_setDuration_24 : decode cX0_setDuration 24 = .ok (.ireturn, 1) := dk_172 (dk_at dksX0_setDuration_1 0 rfl rfl)
theorem q94 : (Jvm.Cond.initialized "BlockingShopLaw") ∈ lw_all := lw_g (lw_at lw_m1 0 rfl) rfl
theorem q157 : (Jvm.Cond.classLink "BlockingShopLaw" (8 : Nat) "BlockingShop") ∈ lw_all := lw_g (lw_at lw_m1 63 rfl) rfl
theorem q159 : (Jvm.Cond.methodLink "BlockingShopLaw" (72 : Nat) ({ cls := "BlockingShop", name := "<init>", desc := "()V" } : Jvm.MethodName)) ∈ lw_all := lw_g (lw_at lw_m1 65 rfl) rfl
theorem q410 : (Jvm.Cond.methodLink "BlockingShopLaw" (76 : Nat) ({ cls := "BlockingShop", name := "append", desc := "(IIIII)I" } : Jvm.MethodName)) ∈ lw_all := lw_g (lw_at lw_m2 76 rfl) rfl
theorem q418 : (Jvm.Cond.methodLink "BlockingShopLaw" (91 : Nat) ({ cls := "BlockingShop", name := "errorOffset", desc := "()I" } : Jvm.MethodName)) ∈ lw_all := lw_g (lw_at lw_m2 84 rfl) rfl
theorem q422 : (Jvm.Cond.methodLink "BlockingShopLaw" (95 : Nat) ({ cls := "BlockingShop", name := "machineCount", desc := "()I" } : Jvm.MethodName)) ∈ lw_all := lw_g (lw_at lw_m2 88 rfl) rfl
theorem q426 : (Jvm.Cond.methodLink "BlockingShopLaw" (99 : Nat) ({ cls := "BlockingShop", name := "jobCount", desc := "()I" } : Jvm.MethodName)) ∈ lw_all := lw_g (lw_at lw_m2 92 rfl) rfl
theorem q460 : (Jvm.Cond.methodLink "BlockingShopLaw" (126 : Nat) ({ cls := "BlockingShop", name := "makespan", desc := "()I" } : Jvm.MethodName)) ∈ lw_all := lw_g (lw_at lw_m2 126 rfl) rfl
theorem q881 : (Jvm.Cond.methodLink "BlockingShopLaw" (133 : Nat) ({ cls := "BlockingShop", name := "planCost", desc := "()I" } : Jvm.MethodName)) ∈ lw_all := lw_g (lw_at lw_m4 67 rfl) rfl
theorem q986 : (Jvm.Cond.methodLink "BlockingShopLaw" (140 : Nat) ({ cls := "BlockingShop", name := "criticalLength", desc := "()I" } : Jvm.MethodName)) ∈ lw_all := lw_g (lw_at lw_m4 172 rfl) rfl
theorem q1611 : (Jvm.Cond.methodLink "BlockingShopLaw" (147 : Nat) ({ cls := "BlockingShop", name := "blockCount", desc := "()I" } : Jvm.MethodName)) ∈ lw_all := lw_g (lw_at lw_m7 77 rfl) rfl
theorem q1692 : (Jvm.Cond.methodLink "BlockingShopLaw" (151 : Nat) ({ cls := "BlockingShop", name := "longestBlock", desc := "()I" } : Jvm.MethodName)) ∈ lw_all := lw_g (lw_at lw_m7 158 rfl) rfl
theorem q1842 : (Jvm.Cond.methodLink "BlockingShopLaw" (161 : Nat) ({ cls := "BlockingShop", name := "bestSwap", desc := "()I" } : Jvm.MethodName)) ∈ lw_all := lw_g (lw_at lw_m8 68 rfl) rfl
theorem q1898 : (Jvm.Cond.methodLink "BlockingShopLaw" (177 : Nat) ({ cls := "BlockingShop", name := "restart", desc := "()I" } : Jvm.MethodName)) ∈ lw_all := lw_g (lw_at lw_m8 124 rfl) rfl
theorem q1973 : (Jvm.Cond.methodLink "BlockingShopLaw" (181 : Nat) ({ cls := "BlockingShop", name := "undo", desc := "()I" } : Jvm.MethodName)) ∈ lw_all := lw_g (lw_at lw_m8 199 rfl) rfl
theorem q1992 : (Jvm.Cond.methodLink "BlockingShopLaw" (185 : Nat) ({ cls := "BlockingShop", name := "checksum", desc := "()J" } : Jvm.MethodName)) ∈ lw_all := lw_g (lw_at lw_m8 218 rfl) rfl
theorem q2004 : (Jvm.Cond.methodLink "BlockingShopLaw" (81 : Nat) ({ cls := "BlockingShopLaw", name := "load", desc := "(LBlockingShop;I[J)I" } : Jvm.MethodName)) ∈ lw_all := lw_g (lw_at lw_m8 230 rfl) rfl
theorem q2005 : (Jvm.Cond.static ({ cls := "BlockingShopLaw", name := "load", desc := "(LBlockingShop;I[J)I" } : Jvm.MethodName)) ∈ lw_all := lw_g (lw_at lw_m8 231 rfl) rfl
theorem q2006 : (Jvm.Cond.codeWith ({ cls := "BlockingShopLaw", name := "load", desc := "(LBlockingShop;I[J)I" } : Jvm.MethodName) method_3_code (4 : Nat) (Option.some Jvm.ClassFile.FieldType.int) [((0 : Nat), (9 : Nat), (12 : Nat), (13 : Nat))]) ∈ lw_all := lw_g (lw_at lw_m8 232 rfl) rfl
theorem q2007 : (Jvm.Cond.classLink "BlockingShopLaw" (13 : Nat) "java/lang/IllegalArgumentException") ∈ lw_all := lw_g (lw_at lw_m8 233 rfl) rfl
theorem q2008 : (Jvm.Cond.methodLink "BlockingShopLaw" (7 : Nat) ({ cls := "BlockingShop", name := "load", desc := "(I)I" } : Jvm.MethodName)) ∈ lw_all := lw_g (lw_at lw_m8 234 rfl) rfl
theorem q2477 : (Jvm.Cond.methodLink "BlockingShopLaw" (103 : Nat) ({ cls := "BlockingShopLaw", name := "operationCount", desc := "(LBlockingShop;I[J)I" } : Jvm.MethodName)) ∈ lw_all := lw_g (lw_at lw_m10 223 rfl) rfl
theorem q2478 : (Jvm.Cond.static ({ cls := "BlockingShopLaw", name := "operationCount", desc := "(LBlockingShop;I[J)I" } : Jvm.MethodName)) ∈ lw_all := lw_g (lw_at lw_m10 224 rfl) rfl
theorem q2479 : (Jvm.Cond.codeWith ({ cls := "BlockingShopLaw", name := "operationCount", desc := "(LBlockingShop;I[J)I" } : Jvm.MethodName) method_4_code (4 : Nat) (Option.some Jvm.ClassFile.FieldType.int) [((0 : Nat), (9 : Nat), (12 : Nat), (18 : Nat))]) ∈ lw_all := lw_g (lw_at lw_m10 225 rfl) rfl
theorem q2480 : (Jvm.Cond.classLink "BlockingShopLaw" (18 : Nat) "java/lang/IndexOutOfBoundsException") ∈ lw_all := lw_g (lw_at lw_m10 226 rfl) rfl
theorem q2496 : (Jvm.Cond.methodLink "BlockingShopLaw" (15 : Nat) ({ cls := "BlockingShop", name := "operationCount", desc := "(I)I" } : Jvm.MethodName)) ∈ lw_all := lw_g (lw_at lw_m11 2 rfl) rfl
theorem q2515 : (Jvm.Cond.methodLink "BlockingShopLaw" (106 : Nat) ({ cls := "BlockingShopLaw", name := "operation", desc := "(LBlockingShop;III[J)I" } : Jvm.MethodName)) ∈ lw_all := lw_g (lw_at lw_m11 21 rfl) rfl
theorem q2516 : (Jvm.Cond.static ({ cls := "BlockingShopLaw", name := "operation", desc := "(LBlockingShop;III[J)I" } : Jvm.MethodName)) ∈ lw_all := lw_g (lw_at lw_m11 22 rfl) rfl
theorem q2517 : (Jvm.Cond.codeWith ({ cls := "BlockingShopLaw", name := "operation", desc := "(LBlockingShop;III[J)I" } : Jvm.MethodName) method_5_code (6 : Nat) (Option.some Jvm.ClassFile.FieldType.int) [((0 : Nat), (12 : Nat), (15 : Nat), (18 : Nat)), ((0 : Nat), (12 : Nat), (19 : Nat), (13 : Nat))]) ∈ lw_all := lw_g (lw_at lw_m11 23 rfl) rfl
theorem q2518 : (Jvm.Cond.methodLink "BlockingShopLaw" (20 : Nat) ({ cls := "BlockingShop", name := "operation", desc := "(III)I" } : Jvm.MethodName)) ∈ lw_all := lw_g (lw_at lw_m11 24 rfl) rfl
theorem q2528 : (Jvm.Cond.methodLink "BlockingShopLaw" (110 : Nat) ({ cls := "BlockingShopLaw", name := "orderLength", desc := "(LBlockingShop;I[J)I" } : Jvm.MethodName)) ∈ lw_all := lw_g (lw_at lw_m11 34 rfl) rfl
theorem q2529 : (Jvm.Cond.static ({ cls := "BlockingShopLaw", name := "orderLength", desc := "(LBlockingShop;I[J)I" } : Jvm.MethodName)) ∈ lw_all := lw_g (lw_at lw_m11 35 rfl) rfl
theorem q2530 : (Jvm.Cond.codeWith ({ cls := "BlockingShopLaw", name := "orderLength", desc := "(LBlockingShop;I[J)I" } : Jvm.MethodName) method_6_code (4 : Nat) (Option.some Jvm.ClassFile.FieldType.int) [((0 : Nat), (9 : Nat), (12 : Nat), (18 : Nat))]) ∈ lw_all := lw_g (lw_at lw_m11 36 rfl) rfl
theorem q2531 : (Jvm.Cond.methodLink "BlockingShopLaw" (24 : Nat) ({ cls := "BlockingShop", name := "orderLength", desc := "(I)I" } : Jvm.MethodName)) ∈ lw_all := lw_g (lw_at lw_m11 37 rfl) rfl
theorem q2539 : (Jvm.Cond.methodLink "BlockingShopLaw" (113 : Nat) ({ cls := "BlockingShopLaw", name := "orderAt", desc := "(LBlockingShop;II[J)I" } : Jvm.MethodName)) ∈ lw_all := lw_g (lw_at lw_m11 45 rfl) rfl
theorem q2540 : (Jvm.Cond.static ({ cls := "BlockingShopLaw", name := "orderAt", desc := "(LBlockingShop;II[J)I" } : Jvm.MethodName)) ∈ lw_all := lw_g (lw_at lw_m11 46 rfl) rfl
theorem q2541 : (Jvm.Cond.codeWith ({ cls := "BlockingShopLaw", name := "orderAt", desc := "(LBlockingShop;II[J)I" } : Jvm.MethodName) method_7_code (5 : Nat) (Option.some Jvm.ClassFile.FieldType.int) [((0 : Nat), (10 : Nat), (13 : Nat), (18 : Nat))]) ∈ lw_all := lw_g (lw_at lw_m11 47 rfl) rfl
theorem q2542 : (Jvm.Cond.methodLink "BlockingShopLaw" (27 : Nat) ({ cls := "BlockingShop", name := "orderAt", desc := "(II)I" } : Jvm.MethodName)) ∈ lw_all := lw_g (lw_at lw_m11 48 rfl) rfl
theorem q2546 : (Jvm.Cond.methodLink "BlockingShopLaw" (117 : Nat) ({ cls := "BlockingShopLaw", name := "start", desc := "(LBlockingShop;II[J)I" } : Jvm.MethodName)) ∈ lw_all := lw_g (lw_at lw_m11 52 rfl) rfl
theorem q2547 : (Jvm.Cond.static ({ cls := "BlockingShopLaw", name := "start", desc := "(LBlockingShop;II[J)I" } : Jvm.MethodName)) ∈ lw_all := lw_g (lw_at lw_m11 53 rfl) rfl
theorem q2548 : (Jvm.Cond.codeWith ({ cls := "BlockingShopLaw", name := "start", desc := "(LBlockingShop;II[J)I" } : Jvm.MethodName) method_8_code (5 : Nat) (Option.some Jvm.ClassFile.FieldType.int) [((0 : Nat), (10 : Nat), (13 : Nat), (18 : Nat))]) ∈ lw_all := lw_g (lw_at lw_m11 54 rfl) rfl
theorem q2549 : (Jvm.Cond.methodLink "BlockingShopLaw" (31 : Nat) ({ cls := "BlockingShop", name := "start", desc := "(II)I" } : Jvm.MethodName)) ∈ lw_all := lw_g (lw_at lw_m11 55 rfl) rfl
theorem q2553 : (Jvm.Cond.methodLink "BlockingShopLaw" (120 : Nat) ({ cls := "BlockingShopLaw", name := "leave", desc := "(LBlockingShop;II[J)I" } : Jvm.MethodName)) ∈ lw_all := lw_g (lw_at lw_m11 59 rfl) rfl
theorem q2554 : (Jvm.Cond.static ({ cls := "BlockingShopLaw", name := "leave", desc := "(LBlockingShop;II[J)I" } : Jvm.MethodName)) ∈ lw_all := lw_g (lw_at lw_m11 60 rfl) rfl
theorem q2555 : (Jvm.Cond.codeWith ({ cls := "BlockingShopLaw", name := "leave", desc := "(LBlockingShop;II[J)I" } : Jvm.MethodName) method_9_code (5 : Nat) (Option.some Jvm.ClassFile.FieldType.int) [((0 : Nat), (10 : Nat), (13 : Nat), (18 : Nat))]) ∈ lw_all := lw_g (lw_at lw_m11 61 rfl) rfl
theorem q2556 : (Jvm.Cond.methodLink "BlockingShopLaw" (34 : Nat) ({ cls := "BlockingShop", name := "leave", desc := "(II)I" } : Jvm.MethodName)) ∈ lw_all := lw_g (lw_at lw_m11 62 rfl) rfl
theorem q2564 : (Jvm.Cond.methodLink "BlockingShopLaw" (123 : Nat) ({ cls := "BlockingShopLaw", name := "completion", desc := "(LBlockingShop;I[J)I" } : Jvm.MethodName)) ∈ lw_all := lw_g (lw_at lw_m11 70 rfl) rfl
theorem q2565 : (Jvm.Cond.static ({ cls := "BlockingShopLaw", name := "completion", desc := "(LBlockingShop;I[J)I" } : Jvm.MethodName)) ∈ lw_all := lw_g (lw_at lw_m11 71 rfl) rfl
theorem q2566 : (Jvm.Cond.codeWith ({ cls := "BlockingShopLaw", name := "completion", desc := "(LBlockingShop;I[J)I" } : Jvm.MethodName) method_10_code (4 : Nat) (Option.some Jvm.ClassFile.FieldType.int) [((0 : Nat), (9 : Nat), (12 : Nat), (18 : Nat))]) ∈ lw_all := lw_g (lw_at lw_m11 72 rfl) rfl
theorem q2567 : (Jvm.Cond.methodLink "BlockingShopLaw" (37 : Nat) ({ cls := "BlockingShop", name := "completion", desc := "(I)I" } : Jvm.MethodName)) ∈ lw_all := lw_g (lw_at lw_m11 73 rfl) rfl
theorem q2572 : (Jvm.Cond.methodLink "BlockingShopLaw" (130 : Nat) ({ cls := "BlockingShopLaw", name := "jobCost", desc := "(LBlockingShop;I[J)I" } : Jvm.MethodName)) ∈ lw_all := lw_g (lw_at lw_m11 78 rfl) rfl
theorem q2573 : (Jvm.Cond.static ({ cls := "BlockingShopLaw", name := "jobCost", desc := "(LBlockingShop;I[J)I" } : Jvm.MethodName)) ∈ lw_all := lw_g (lw_at lw_m11 79 rfl) rfl
theorem q2574 : (Jvm.Cond.codeWith ({ cls := "BlockingShopLaw", name := "jobCost", desc := "(LBlockingShop;I[J)I" } : Jvm.MethodName) method_11_code (4 : Nat) (Option.some Jvm.ClassFile.FieldType.int) [((0 : Nat), (9 : Nat), (12 : Nat), (18 : Nat))]) ∈ lw_all := lw_g (lw_at lw_m11 80 rfl) rfl
theorem q2575 : (Jvm.Cond.methodLink "BlockingShopLaw" (40 : Nat) ({ cls := "BlockingShop", name := "jobCost", desc := "(I)I" } : Jvm.MethodName)) ∈ lw_all := lw_g (lw_at lw_m11 81 rfl) rfl
theorem q2580 : (Jvm.Cond.methodLink "BlockingShopLaw" (137 : Nat) ({ cls := "BlockingShopLaw", name := "blockedTime", desc := "(LBlockingShop;I[J)I" } : Jvm.MethodName)) ∈ lw_all := lw_g (lw_at lw_m11 86 rfl) rfl
theorem q2581 : (Jvm.Cond.static ({ cls := "BlockingShopLaw", name := "blockedTime", desc := "(LBlockingShop;I[J)I" } : Jvm.MethodName)) ∈ lw_all := lw_g (lw_at lw_m11 87 rfl) rfl
theorem q2582 : (Jvm.Cond.codeWith ({ cls := "BlockingShopLaw", name := "blockedTime", desc := "(LBlockingShop;I[J)I" } : Jvm.MethodName) method_12_code (4 : Nat) (Option.some Jvm.ClassFile.FieldType.int) [((0 : Nat), (9 : Nat), (12 : Nat), (18 : Nat))]) ∈ lw_all := lw_g (lw_at lw_m11 88 rfl) rfl
theorem q2583 : (Jvm.Cond.methodLink "BlockingShopLaw" (43 : Nat) ({ cls := "BlockingShop", name := "blockedTime", desc := "(I)I" } : Jvm.MethodName)) ∈ lw_all := lw_g (lw_at lw_m11 89 rfl) rfl
theorem q2588 : (Jvm.Cond.methodLink "BlockingShopLaw" (144 : Nat) ({ cls := "BlockingShopLaw", name := "critical", desc := "(LBlockingShop;I[J)I" } : Jvm.MethodName)) ∈ lw_all := lw_g (lw_at lw_m11 94 rfl) rfl
theorem q2589 : (Jvm.Cond.static ({ cls := "BlockingShopLaw", name := "critical", desc := "(LBlockingShop;I[J)I" } : Jvm.MethodName)) ∈ lw_all := lw_g (lw_at lw_m11 95 rfl) rfl
theorem q2590 : (Jvm.Cond.codeWith ({ cls := "BlockingShopLaw", name := "critical", desc := "(LBlockingShop;I[J)I" } : Jvm.MethodName) method_13_code (4 : Nat) (Option.some Jvm.ClassFile.FieldType.int) [((0 : Nat), (9 : Nat), (12 : Nat), (49 : Nat))]) ∈ lw_all := lw_g (lw_at lw_m11 96 rfl) rfl
theorem q2591 : (Jvm.Cond.classLink "BlockingShopLaw" (49 : Nat) "java/util/NoSuchElementException") ∈ lw_all := lw_g (lw_at lw_m11 97 rfl) rfl
theorem q2592 : (Jvm.Cond.methodLink "BlockingShopLaw" (46 : Nat) ({ cls := "BlockingShop", name := "critical", desc := "(I)I" } : Jvm.MethodName)) ∈ lw_all := lw_g (lw_at lw_m11 98 rfl) rfl
theorem q2599 : (Jvm.Cond.methodLink "BlockingShopLaw" (155 : Nat) ({ cls := "BlockingShopLaw", name := "deadlocks", desc := "(LBlockingShop;II[J)I" } : Jvm.MethodName)) ∈ lw_all := lw_g (lw_at lw_m11 105 rfl) rfl
theorem q2600 : (Jvm.Cond.static ({ cls := "BlockingShopLaw", name := "deadlocks", desc := "(LBlockingShop;II[J)I" } : Jvm.MethodName)) ∈ lw_all := lw_g (lw_at lw_m11 106 rfl) rfl
theorem q2601 : (Jvm.Cond.codeWith ({ cls := "BlockingShopLaw", name := "deadlocks", desc := "(LBlockingShop;II[J)I" } : Jvm.MethodName) method_14_code (5 : Nat) (Option.some Jvm.ClassFile.FieldType.int) [((0 : Nat), (17 : Nat), (20 : Nat), (18 : Nat))]) ∈ lw_all := lw_g (lw_at lw_m11 107 rfl) rfl
theorem q2602 : (Jvm.Cond.methodLink "BlockingShopLaw" (51 : Nat) ({ cls := "BlockingShop", name := "deadlocks", desc := "(II)Z" } : Jvm.MethodName)) ∈ lw_all := lw_g (lw_at lw_m11 108 rfl) rfl
theorem q2614 : (Jvm.Cond.methodLink "BlockingShopLaw" (158 : Nat) ({ cls := "BlockingShopLaw", name := "makespanAfter", desc := "(LBlockingShop;II[J)I" } : Jvm.MethodName)) ∈ lw_all := lw_g (lw_at lw_m11 120 rfl) rfl
theorem q2615 : (Jvm.Cond.static ({ cls := "BlockingShopLaw", name := "makespanAfter", desc := "(LBlockingShop;II[J)I" } : Jvm.MethodName)) ∈ lw_all := lw_g (lw_at lw_m11 121 rfl) rfl
theorem q2616 : (Jvm.Cond.codeWith ({ cls := "BlockingShopLaw", name := "makespanAfter", desc := "(LBlockingShop;II[J)I" } : Jvm.MethodName) method_15_code (5 : Nat) (Option.some Jvm.ClassFile.FieldType.int) [((0 : Nat), (10 : Nat), (13 : Nat), (18 : Nat))]) ∈ lw_all := lw_g (lw_at lw_m11 122 rfl) rfl
theorem q2617 : (Jvm.Cond.methodLink "BlockingShopLaw" (55 : Nat) ({ cls := "BlockingShop", name := "makespanAfter", desc := "(II)I" } : Jvm.MethodName)) ∈ lw_all := lw_g (lw_at lw_m11 123 rfl) rfl
theorem q2618 : (Jvm.Cond.methodLink "BlockingShopLaw" (165 : Nat) ({ cls := "BlockingShopLaw", name := "swap", desc := "(LBlockingShop;II[J)I" } : Jvm.MethodName)) ∈ lw_all := lw_g (lw_at lw_m11 124 rfl) rfl
theorem q2619 : (Jvm.Cond.static ({ cls := "BlockingShopLaw", name := "swap", desc := "(LBlockingShop;II[J)I" } : Jvm.MethodName)) ∈ lw_all := lw_g (lw_at lw_m11 125 rfl) rfl
theorem q2620 : (Jvm.Cond.codeWith ({ cls := "BlockingShopLaw", name := "swap", desc := "(LBlockingShop;II[J)I" } : Jvm.MethodName) method_16_code (5 : Nat) (Option.some Jvm.ClassFile.FieldType.int) [((0 : Nat), (10 : Nat), (13 : Nat), (18 : Nat)), ((0 : Nat), (10 : Nat), (17 : Nat), (61 : Nat))]) ∈ lw_all := lw_g (lw_at lw_m11 126 rfl) rfl
theorem q2621 : (Jvm.Cond.classLink "BlockingShopLaw" (61 : Nat) "java/lang/IllegalStateException") ∈ lw_all := lw_g (lw_at lw_m11 127 rfl) rfl
theorem q2622 : (Jvm.Cond.methodLink "BlockingShopLaw" (58 : Nat) ({ cls := "BlockingShop", name := "swap", desc := "(II)I" } : Jvm.MethodName)) ∈ lw_all := lw_g (lw_at lw_m11 128 rfl) rfl
theorem q2638 : (Jvm.Cond.methodLink "BlockingShopLaw" (168 : Nat) ({ cls := "BlockingShopLaw", name := "improve", desc := "(LBlockingShop;I[J)I" } : Jvm.MethodName)) ∈ lw_all := lw_g (lw_at lw_m11 144 rfl) rfl
theorem q2639 : (Jvm.Cond.static ({ cls := "BlockingShopLaw", name := "improve", desc := "(LBlockingShop;I[J)I" } : Jvm.MethodName)) ∈ lw_all := lw_g (lw_at lw_m11 145 rfl) rfl
theorem q2640 : (Jvm.Cond.codeWith ({ cls := "BlockingShopLaw", name := "improve", desc := "(LBlockingShop;I[J)I" } : Jvm.MethodName) method_17_code (4 : Nat) (Option.some Jvm.ClassFile.FieldType.int) [((0 : Nat), (9 : Nat), (12 : Nat), (13 : Nat))]) ∈ lw_all := lw_g (lw_at lw_m11 146 rfl) rfl
theorem q2641 : (Jvm.Cond.methodLink "BlockingShopLaw" (63 : Nat) ({ cls := "BlockingShop", name := "improve", desc := "(I)I" } : Jvm.MethodName)) ∈ lw_all := lw_g (lw_at lw_m11 147 rfl) rfl
theorem q2646 : (Jvm.Cond.methodLink "BlockingShopLaw" (171 : Nat) ({ cls := "BlockingShopLaw", name := "place", desc := "(LBlockingShop;III[J)I" } : Jvm.MethodName)) ∈ lw_all := lw_g (lw_at lw_m11 152 rfl) rfl
theorem q2647 : (Jvm.Cond.static ({ cls := "BlockingShopLaw", name := "place", desc := "(LBlockingShop;III[J)I" } : Jvm.MethodName)) ∈ lw_all := lw_g (lw_at lw_m11 153 rfl) rfl
theorem q2648 : (Jvm.Cond.codeWith ({ cls := "BlockingShopLaw", name := "place", desc := "(LBlockingShop;III[J)I" } : Jvm.MethodName) method_18_code (6 : Nat) (Option.some Jvm.ClassFile.FieldType.int) [((0 : Nat), (12 : Nat), (15 : Nat), (18 : Nat)), ((0 : Nat), (12 : Nat), (19 : Nat), (61 : Nat))]) ∈ lw_all := lw_g (lw_at lw_m11 154 rfl) rfl
theorem q2649 : (Jvm.Cond.methodLink "BlockingShopLaw" (66 : Nat) ({ cls := "BlockingShop", name := "place", desc := "(III)I" } : Jvm.MethodName)) ∈ lw_all := lw_g (lw_at lw_m11 155 rfl) rfl
theorem q2658 : (Jvm.Cond.methodLink "BlockingShopLaw" (174 : Nat) ({ cls := "BlockingShopLaw", name := "setDuration", desc := "(LBlockingShop;III[J)I" } : Jvm.MethodName)) ∈ lw_all := lw_g (lw_at lw_m11 164 rfl) rfl
theorem q2659 : (Jvm.Cond.static ({ cls := "BlockingShopLaw", name := "setDuration", desc := "(LBlockingShop;III[J)I" } : Jvm.MethodName)) ∈ lw_all := lw_g (lw_at lw_m11 165 rfl) rfl
theorem q2660 : (Jvm.Cond.codeWith ({ cls := "BlockingShopLaw", name := "setDuration", desc := "(LBlockingShop;III[J)I" } : Jvm.MethodName) method_19_code (6 : Nat) (Option.some Jvm.ClassFile.FieldType.int) [((0 : Nat), (12 : Nat), (15 : Nat), (18 : Nat)), ((0 : Nat), (12 : Nat), (19 : Nat), (13 : Nat))]) ∈ lw_all := lw_g (lw_at lw_m11 166 rfl) rfl
theorem q2661 : (Jvm.Cond.methodLink "BlockingShopLaw" (69 : Nat) ({ cls := "BlockingShop", name := "setDuration", desc := "(III)I" } : Jvm.MethodName)) ∈ lw_all := lw_g (lw_at lw_m11 167 rfl) rfl
theorem q2666 : (Jvm.Cond.classLink "BlockingShopLaw" (73 : Nat) "BlockingShopModel") ∈ lw_all := lw_g (lw_at lw_m11 172 rfl) rfl
theorem q2668 : (Jvm.Cond.methodLink "BlockingShopLaw" (75 : Nat) ({ cls := "BlockingShopModel", name := "<init>", desc := "()V" } : Jvm.MethodName)) ∈ lw_all := lw_g (lw_at lw_m11 174 rfl) rfl
theorem q2750 : (Jvm.Cond.methodLink "BlockingShopLaw" (87 : Nat) ({ cls := "BlockingShopModel", name := "thrown", desc := "()I" } : Jvm.MethodName)) ∈ lw_all := lw_g (lw_at lw_m12 16 rfl) rfl
theorem q2754 : (Jvm.Cond.methodLink "BlockingShopLaw" (80 : Nat) ({ cls := "BlockingShopModel", name := "append", desc := "(IIIII)I" } : Jvm.MethodName)) ∈ lw_all := lw_g (lw_at lw_m12 20 rfl) rfl
theorem q2758 : (Jvm.Cond.methodLink "BlockingShopLaw" (86 : Nat) ({ cls := "BlockingShopModel", name := "load", desc := "(I)I" } : Jvm.MethodName)) ∈ lw_all := lw_g (lw_at lw_m12 24 rfl) rfl
theorem q2881 : (Jvm.Cond.methodLink "BlockingShopLaw" (94 : Nat) ({ cls := "BlockingShopModel", name := "errorOffset", desc := "()I" } : Jvm.MethodName)) ∈ lw_all := lw_g (lw_at lw_m12 147 rfl) rfl
theorem q2885 : (Jvm.Cond.methodLink "BlockingShopLaw" (98 : Nat) ({ cls := "BlockingShopModel", name := "machineCount", desc := "()I" } : Jvm.MethodName)) ∈ lw_all := lw_g (lw_at lw_m12 151 rfl) rfl
theorem q2889 : (Jvm.Cond.methodLink "BlockingShopLaw" (102 : Nat) ({ cls := "BlockingShopModel", name := "jobCount", desc := "()I" } : Jvm.MethodName)) ∈ lw_all := lw_g (lw_at lw_m12 155 rfl) rfl
theorem q2893 : (Jvm.Cond.methodLink "BlockingShopLaw" (105 : Nat) ({ cls := "BlockingShopModel", name := "operationCount", desc := "(I)I" } : Jvm.MethodName)) ∈ lw_all := lw_g (lw_at lw_m12 159 rfl) rfl
theorem q2901 : (Jvm.Cond.methodLink "BlockingShopLaw" (109 : Nat) ({ cls := "BlockingShopModel", name := "operation", desc := "(III)I" } : Jvm.MethodName)) ∈ lw_all := lw_g (lw_at lw_m12 167 rfl) rfl
theorem q2917 : (Jvm.Cond.methodLink "BlockingShopLaw" (112 : Nat) ({ cls := "BlockingShopModel", name := "orderLength", desc := "(I)I" } : Jvm.MethodName)) ∈ lw_all := lw_g (lw_at lw_m12 183 rfl) rfl
theorem q2925 : (Jvm.Cond.methodLink "BlockingShopLaw" (116 : Nat) ({ cls := "BlockingShopModel", name := "orderAt", desc := "(II)I" } : Jvm.MethodName)) ∈ lw_all := lw_g (lw_at lw_m12 191 rfl) rfl
theorem q2932 : (Jvm.Cond.methodLink "BlockingShopLaw" (119 : Nat) ({ cls := "BlockingShopModel", name := "start", desc := "(II)I" } : Jvm.MethodName)) ∈ lw_all := lw_g (lw_at lw_m12 198 rfl) rfl
theorem q2967 : (Jvm.Cond.methodLink "BlockingShopLaw" (122 : Nat) ({ cls := "BlockingShopModel", name := "leave", desc := "(II)I" } : Jvm.MethodName)) ∈ lw_all := lw_g (lw_at lw_m12 233 rfl) rfl
theorem q2975 : (Jvm.Cond.methodLink "BlockingShopLaw" (125 : Nat) ({ cls := "BlockingShopModel", name := "completion", desc := "(I)I" } : Jvm.MethodName)) ∈ lw_all := lw_g (lw_at lw_m13 1 rfl) rfl
theorem q2983 : (Jvm.Cond.methodLink "BlockingShopLaw" (129 : Nat) ({ cls := "BlockingShopModel", name := "makespan", desc := "()I" } : Jvm.MethodName)) ∈ lw_all := lw_g (lw_at lw_m13 9 rfl) rfl
theorem q2995 : (Jvm.Cond.methodLink "BlockingShopLaw" (132 : Nat) ({ cls := "BlockingShopModel", name := "jobCost", desc := "(I)I" } : Jvm.MethodName)) ∈ lw_all := lw_g (lw_at lw_m13 21 rfl) rfl
theorem q3011 : (Jvm.Cond.methodLink "BlockingShopLaw" (136 : Nat) ({ cls := "BlockingShopModel", name := "planCost", desc := "()I" } : Jvm.MethodName)) ∈ lw_all := lw_g (lw_at lw_m13 37 rfl) rfl
theorem q3019 : (Jvm.Cond.methodLink "BlockingShopLaw" (139 : Nat) ({ cls := "BlockingShopModel", name := "blockedTime", desc := "(I)I" } : Jvm.MethodName)) ∈ lw_all := lw_g (lw_at lw_m13 45 rfl) rfl
theorem q3023 : (Jvm.Cond.methodLink "BlockingShopLaw" (143 : Nat) ({ cls := "BlockingShopModel", name := "criticalLength", desc := "()I" } : Jvm.MethodName)) ∈ lw_all := lw_g (lw_at lw_m13 49 rfl) rfl
theorem q3035 : (Jvm.Cond.methodLink "BlockingShopLaw" (146 : Nat) ({ cls := "BlockingShopModel", name := "critical", desc := "(I)I" } : Jvm.MethodName)) ∈ lw_all := lw_g (lw_at lw_m13 61 rfl) rfl
theorem q3039 : (Jvm.Cond.methodLink "BlockingShopLaw" (150 : Nat) ({ cls := "BlockingShopModel", name := "blockCount", desc := "()I" } : Jvm.MethodName)) ∈ lw_all := lw_g (lw_at lw_m13 65 rfl) rfl
theorem q3043 : (Jvm.Cond.methodLink "BlockingShopLaw" (154 : Nat) ({ cls := "BlockingShopModel", name := "longestBlock", desc := "()I" } : Jvm.MethodName)) ∈ lw_all := lw_g (lw_at lw_m13 69 rfl) rfl
theorem q3047 : (Jvm.Cond.methodLink "BlockingShopLaw" (157 : Nat) ({ cls := "BlockingShopModel", name := "deadlocks", desc := "(II)Z" } : Jvm.MethodName)) ∈ lw_all := lw_g (lw_at lw_m13 73 rfl) rfl
theorem q3071 : (Jvm.Cond.methodLink "BlockingShopLaw" (160 : Nat) ({ cls := "BlockingShopModel", name := "makespanAfter", desc := "(II)I" } : Jvm.MethodName)) ∈ lw_all := lw_g (lw_at lw_m13 97 rfl) rfl
theorem q3075 : (Jvm.Cond.methodLink "BlockingShopLaw" (164 : Nat) ({ cls := "BlockingShopModel", name := "bestSwap", desc := "()I" } : Jvm.MethodName)) ∈ lw_all := lw_g (lw_at lw_m13 101 rfl) rfl
theorem q3086 : (Jvm.Cond.methodLink "BlockingShopLaw" (167 : Nat) ({ cls := "BlockingShopModel", name := "swap", desc := "(II)I" } : Jvm.MethodName)) ∈ lw_all := lw_g (lw_at lw_m13 112 rfl) rfl
theorem q3090 : (Jvm.Cond.methodLink "BlockingShopLaw" (170 : Nat) ({ cls := "BlockingShopModel", name := "improve", desc := "(I)I" } : Jvm.MethodName)) ∈ lw_all := lw_g (lw_at lw_m13 116 rfl) rfl
theorem q3094 : (Jvm.Cond.methodLink "BlockingShopLaw" (173 : Nat) ({ cls := "BlockingShopModel", name := "place", desc := "(III)I" } : Jvm.MethodName)) ∈ lw_all := lw_g (lw_at lw_m13 120 rfl) rfl
theorem q3102 : (Jvm.Cond.methodLink "BlockingShopLaw" (176 : Nat) ({ cls := "BlockingShopModel", name := "setDuration", desc := "(III)I" } : Jvm.MethodName)) ∈ lw_all := lw_g (lw_at lw_m13 128 rfl) rfl
theorem q3106 : (Jvm.Cond.methodLink "BlockingShopLaw" (180 : Nat) ({ cls := "BlockingShopModel", name := "restart", desc := "()I" } : Jvm.MethodName)) ∈ lw_all := lw_g (lw_at lw_m13 132 rfl) rfl
theorem q3110 : (Jvm.Cond.methodLink "BlockingShopLaw" (184 : Nat) ({ cls := "BlockingShopModel", name := "undo", desc := "()I" } : Jvm.MethodName)) ∈ lw_all := lw_g (lw_at lw_m13 136 rfl) rfl
theorem q3114 : (Jvm.Cond.methodLink "BlockingShopLaw" (189 : Nat) ({ cls := "BlockingShopModel", name := "checksum", desc := "()J" } : Jvm.MethodName)) ∈ lw_all := lw_g (lw_at lw_m13 140 rfl) rfl

/-! BlockingShop -/
set_option maxRecDepth 100000
def RX1 : String := "BlockingShop"
def TX1 : u_T := fun k => match k with
  | 0 => ("BlockingShop", "buffer", "[B", true)
  | 1 => ("BlockingShop", "history", "Ljava/util/ArrayDeque;", true)
  | 2 => ("BlockingShop", "graph", "LBlockingShop$Graph;", true)
  | 3 => ("BlockingShop", "current", "LBlockingShop$Plan;", false)
  | 4 => ("BlockingShop", "bufferLength", "I", false)
  | _ => ("BlockingShop", "errorOffset", "I", false)
def tyX1 : Nat → FieldType := fun k => match k with
  | 0 => .array .byte
  | 1 => .object "java/util/ArrayDeque"
  | 2 => .object "BlockingShop$Graph"
  | 3 => .object "BlockingShop$Plan"
  | 4 => .int
  | _ => .int
abbrev wsX10 : List Cond := u_ws RX1 TX1 6
theorem nmX1 : ∀ a, a < 6 → ∀ b, b < 6 → a ≠ b → (TX1 a).2.1 ≠ (TX1 b).2.1 := by decide +kernel
theorem tyX1_ok : ∀ k, k < 6 → parseFieldDescriptor (TX1 k).2.2.1 = some (tyX1 k) := by decide +kernel
abbrev cX1_init : ByteArray := prog_1_method_2_code
def yX1_init : MethodName := ⟨RX1, "<init>", "()V"⟩
def dkwX1_init_2 : List UInt8 := [183, 0, 31, 183, 0, 34, 181, 0, 37, 42, 2, 181, 0, 41, 177]
abbrev dktX1_init_2 : List UInt8 := dkwX1_init_2 ++ []
def dkwX1_init_1 : List UInt8 := [42, 187, 0, 20, 89, 183, 0, 22, 181, 0, 23, 42, 187, 0, 27, 89, 187, 0, 29, 89, 3, 3]
abbrev dktX1_init_1 : List UInt8 := dkwX1_init_1 ++ dktX1_init_2
def dkwX1_init_0 : List UInt8 := [42, 183, 0, 1, 42, 17, 3, 132, 188, 8, 181, 0, 9, 42, 187, 0, 13, 89, 183, 0, 15, 181, 0, 16]
abbrev dktX1_init_0 : List UInt8 := dkwX1_init_0 ++ dktX1_init_1
theorem dksX1_init_0 : cX1_init.data.toList.drop 0 = dktX1_init_0 := by decide +kernel
theorem dksX1_init_1 : cX1_init.data.toList.drop 24 = dktX1_init_1 := dk_seg dksX1_init_0 24 rfl rfl
theorem dksX1_init_2 : cX1_init.data.toList.drop 46 = dktX1_init_2 := dk_seg dksX1_init_1 22 rfl rfl
theorem dX1_init_0 : decode cX1_init 0 = .ok (.aload_n 0, 1) := dk_42 (dk_at dksX1_init_0 0 rfl rfl)
theorem dX1_init_1 : decode cX1_init 1 = .ok (.invokespecial 1, 3) := dk_183 0 1 (dk_at dksX1_init_0 1 rfl rfl)
theorem dX1_init_4 : decode cX1_init 4 = .ok (.aload_n 0, 1) := dk_42 (dk_at dksX1_init_0 4 rfl rfl)
theorem dX1_init_5 : decode cX1_init 5 = .ok (.sipush 900, 3) := dk_17 3 132 (dk_at dksX1_init_0 5 rfl rfl)
theorem dX1_init_8 : decode cX1_init 8 = .ok (.newarray .byte, 2) := dk_188_8 (dk_at dksX1_init_0 8 rfl rfl)
theorem dX1_init_10 : decode cX1_init 10 = .ok (.putfield 9, 3) := dk_181 0 9 (dk_at dksX1_init_0 10 rfl rfl)
theorem dX1_init_13 : decode cX1_init 13 = .ok (.aload_n 0, 1) := dk_42 (dk_at dksX1_init_0 13 rfl rfl)
theorem dX1_init_14 : decode cX1_init 14 = .ok (.new 13, 3) := dk_187 0 13 (dk_at dksX1_init_0 14 rfl rfl)
theorem dX1_init_17 : decode cX1_init 17 = .ok (.dup, 1) := dk_89 (dk_at dksX1_init_0 17 rfl rfl)
theorem dX1_init_18 : decode cX1_init 18 = .ok (.invokespecial 15, 3) := dk_183 0 15 (dk_at dksX1_init_0 18 rfl rfl)
theorem dX1_init_21 : decode cX1_init 21 = .ok (.putfield 16, 3) := dk_181 0 16 (dk_at dksX1_init_0 21 rfl rfl)
theorem dX1_init_24 : decode cX1_init 24 = .ok (.aload_n 0, 1) := dk_42 (dk_at dksX1_init_1 0 rfl rfl)
theorem dX1_init_25 : decode cX1_init 25 = .ok (.new 20, 3) := dk_187 0 20 (dk_at dksX1_init_1 1 rfl rfl)
theorem dX1_init_28 : decode cX1_init 28 = .ok (.dup, 1) := dk_89 (dk_at dksX1_init_1 4 rfl rfl)
theorem dX1_init_29 : decode cX1_init 29 = .ok (.invokespecial 22, 3) := dk_183 0 22 (dk_at dksX1_init_1 5 rfl rfl)
theorem dX1_init_32 : decode cX1_init 32 = .ok (.putfield 23, 3) := dk_181 0 23 (dk_at dksX1_init_1 8 rfl rfl)
theorem dX1_init_35 : decode cX1_init 35 = .ok (.aload_n 0, 1) := dk_42 (dk_at dksX1_init_1 11 rfl rfl)
theorem dX1_init_36 : decode cX1_init 36 = .ok (.new 27, 3) := dk_187 0 27 (dk_at dksX1_init_1 12 rfl rfl)
theorem dX1_init_39 : decode cX1_init 39 = .ok (.dup, 1) := dk_89 (dk_at dksX1_init_1 15 rfl rfl)
theorem dX1_init_40 : decode cX1_init 40 = .ok (.new 29, 3) := dk_187 0 29 (dk_at dksX1_init_1 16 rfl rfl)
theorem dX1_init_43 : decode cX1_init 43 = .ok (.dup, 1) := dk_89 (dk_at dksX1_init_1 19 rfl rfl)
theorem dX1_init_44 : decode cX1_init 44 = .ok (.iconst 0, 1) := dk_3 (dk_at dksX1_init_1 20 rfl rfl)
theorem dX1_init_45 : decode cX1_init 45 = .ok (.iconst 0, 1) := dk_3 (dk_at dksX1_init_1 21 rfl rfl)
theorem dX1_init_46 : decode cX1_init 46 = .ok (.invokespecial 31, 3) := dk_183 0 31 (dk_at dksX1_init_2 0 rfl rfl)
theorem dX1_init_49 : decode cX1_init 49 = .ok (.invokespecial 34, 3) := dk_183 0 34 (dk_at dksX1_init_2 3 rfl rfl)
theorem dX1_init_52 : decode cX1_init 52 = .ok (.putfield 37, 3) := dk_181 0 37 (dk_at dksX1_init_2 6 rfl rfl)
theorem dX1_init_55 : decode cX1_init 55 = .ok (.aload_n 0, 1) := dk_42 (dk_at dksX1_init_2 9 rfl rfl)
theorem dX1_init_56 : decode cX1_init 56 = .ok (.iconst (-1), 1) := dk_2 (dk_at dksX1_init_2 10 rfl rfl)
theorem dX1_init_57 : decode cX1_init 57 = .ok (.putfield 41, 3) := dk_181 0 41 (dk_at dksX1_init_2 11 rfl rfl)
theorem dX1_init_60 : decode cX1_init 60 = .ok (.return_, 1) := dk_177 (dk_at dksX1_init_2 14 rfl rfl)
abbrev cX1_append : ByteArray := prog_1_method_13_code
def yX1_append : MethodName := ⟨RX1, "append", "(IIIII)I"⟩
def dkwX1_append_2 : List UInt8 := [172]
abbrev dktX1_append_2 : List UInt8 := dkwX1_append_2 ++ []
def dkwX1_append_1 : List UInt8 := [182, 0, 111, 42, 29, 182, 0, 111, 42, 21, 4, 182, 0, 111, 42, 21, 5, 182, 0, 111, 42, 180, 0, 108]
abbrev dktX1_append_1 : List UInt8 := dkwX1_append_1 ++ dktX1_append_2
def dkwX1_append_0 : List UInt8 := [42, 180, 0, 108, 16, 20, 96, 17, 3, 132, 164, 0, 5, 2, 172, 42, 27, 182, 0, 111, 42, 28]
abbrev dktX1_append_0 : List UInt8 := dkwX1_append_0 ++ dktX1_append_1
theorem dksX1_append_0 : cX1_append.data.toList.drop 0 = dktX1_append_0 := by decide +kernel
theorem dksX1_append_1 : cX1_append.data.toList.drop 22 = dktX1_append_1 := dk_seg dksX1_append_0 22 rfl rfl
theorem dksX1_append_2 : cX1_append.data.toList.drop 46 = dktX1_append_2 := dk_seg dksX1_append_1 24 rfl rfl
theorem dX1_append_0 : decode cX1_append 0 = .ok (.aload_n 0, 1) := dk_42 (dk_at dksX1_append_0 0 rfl rfl)
theorem dX1_append_1 : decode cX1_append 1 = .ok (.getfield 108, 3) := dk_180 0 108 (dk_at dksX1_append_0 1 rfl rfl)
theorem dX1_append_4 : decode cX1_append 4 = .ok (.bipush 20, 2) := dk_16 20 (dk_at dksX1_append_0 4 rfl rfl)
theorem dX1_append_6 : decode cX1_append 6 = .ok (.iadd, 1) := dk_96 (dk_at dksX1_append_0 6 rfl rfl)
theorem dX1_append_7 : decode cX1_append 7 = .ok (.sipush 900, 3) := dk_17 3 132 (dk_at dksX1_append_0 7 rfl rfl)
theorem dX1_append_10 : decode cX1_append 10 = .ok (.if_icmp .le 5, 3) := dk_164 0 5 (dk_at dksX1_append_0 10 rfl rfl)
theorem dX1_append_13 : decode cX1_append 13 = .ok (.iconst (-1), 1) := dk_2 (dk_at dksX1_append_0 13 rfl rfl)
theorem dX1_append_14 : decode cX1_append 14 = .ok (.ireturn, 1) := dk_172 (dk_at dksX1_append_0 14 rfl rfl)
theorem dX1_append_15 : decode cX1_append 15 = .ok (.aload_n 0, 1) := dk_42 (dk_at dksX1_append_0 15 rfl rfl)
theorem dX1_append_16 : decode cX1_append 16 = .ok (.iload_n 1, 1) := dk_27 (dk_at dksX1_append_0 16 rfl rfl)
theorem dX1_append_17 : decode cX1_append 17 = .ok (.invokevirtual 111, 3) := dk_182 0 111 (dk_at dksX1_append_0 17 rfl rfl)
theorem dX1_append_20 : decode cX1_append 20 = .ok (.aload_n 0, 1) := dk_42 (dk_at dksX1_append_0 20 rfl rfl)
theorem dX1_append_21 : decode cX1_append 21 = .ok (.iload_n 2, 1) := dk_28 (dk_at dksX1_append_0 21 rfl rfl)
theorem dX1_append_22 : decode cX1_append 22 = .ok (.invokevirtual 111, 3) := dk_182 0 111 (dk_at dksX1_append_1 0 rfl rfl)
theorem dX1_append_25 : decode cX1_append 25 = .ok (.aload_n 0, 1) := dk_42 (dk_at dksX1_append_1 3 rfl rfl)
theorem dX1_append_26 : decode cX1_append 26 = .ok (.iload_n 3, 1) := dk_29 (dk_at dksX1_append_1 4 rfl rfl)
theorem dX1_append_27 : decode cX1_append 27 = .ok (.invokevirtual 111, 3) := dk_182 0 111 (dk_at dksX1_append_1 5 rfl rfl)
theorem dX1_append_30 : decode cX1_append 30 = .ok (.aload_n 0, 1) := dk_42 (dk_at dksX1_append_1 8 rfl rfl)
theorem dX1_append_31 : decode cX1_append 31 = .ok (.iload 4, 2) := dk_21 4 (dk_at dksX1_append_1 9 rfl rfl)
theorem dX1_append_33 : decode cX1_append 33 = .ok (.invokevirtual 111, 3) := dk_182 0 111 (dk_at dksX1_append_1 11 rfl rfl)
theorem dX1_append_36 : decode cX1_append 36 = .ok (.aload_n 0, 1) := dk_42 (dk_at dksX1_append_1 14 rfl rfl)
theorem dX1_append_37 : decode cX1_append 37 = .ok (.iload 5, 2) := dk_21 5 (dk_at dksX1_append_1 15 rfl rfl)
theorem dX1_append_39 : decode cX1_append 39 = .ok (.invokevirtual 111, 3) := dk_182 0 111 (dk_at dksX1_append_1 17 rfl rfl)
theorem dX1_append_42 : decode cX1_append 42 = .ok (.aload_n 0, 1) := dk_42 (dk_at dksX1_append_1 20 rfl rfl)
theorem dX1_append_43 : decode cX1_append 43 = .ok (.getfield 108, 3) := dk_180 0 108 (dk_at dksX1_append_1 21 rfl rfl)
theorem dX1_append_46 : decode cX1_append 46 = .ok (.ireturn, 1) := dk_172 (dk_at dksX1_append_2 0 rfl rfl)
abbrev cX1_put : ByteArray := prog_1_method_12_code
def yX1_put : MethodName := ⟨RX1, "put", "(I)V"⟩
def dkwX1_put_1 : List UInt8 := [180, 0, 108, 4, 96, 181, 0, 108, 132, 2, 248, 167, 255, 226, 177]
abbrev dktX1_put_1 : List UInt8 := dkwX1_put_1 ++ []
def dkwX1_put_0 : List UInt8 := [16, 24, 61, 28, 155, 0, 32, 42, 180, 0, 9, 42, 180, 0, 108, 27, 28, 122, 145, 84, 42, 89]
abbrev dktX1_put_0 : List UInt8 := dkwX1_put_0 ++ dktX1_put_1
theorem dksX1_put_0 : cX1_put.data.toList.drop 0 = dktX1_put_0 := by decide +kernel
theorem dksX1_put_1 : cX1_put.data.toList.drop 22 = dktX1_put_1 := dk_seg dksX1_put_0 22 rfl rfl
theorem dX1_put_0 : decode cX1_put 0 = .ok (.bipush 24, 2) := dk_16 24 (dk_at dksX1_put_0 0 rfl rfl)
theorem dX1_put_2 : decode cX1_put 2 = .ok (.istore_n 2, 1) := dk_61 (dk_at dksX1_put_0 2 rfl rfl)
theorem dX1_put_3 : decode cX1_put 3 = .ok (.iload_n 2, 1) := dk_28 (dk_at dksX1_put_0 3 rfl rfl)
theorem dX1_put_4 : decode cX1_put 4 = .ok (.ifCond .lt 32, 3) := dk_155 0 32 (dk_at dksX1_put_0 4 rfl rfl)
theorem dX1_put_7 : decode cX1_put 7 = .ok (.aload_n 0, 1) := dk_42 (dk_at dksX1_put_0 7 rfl rfl)
theorem dX1_put_8 : decode cX1_put 8 = .ok (.getfield 9, 3) := dk_180 0 9 (dk_at dksX1_put_0 8 rfl rfl)
theorem dX1_put_11 : decode cX1_put 11 = .ok (.aload_n 0, 1) := dk_42 (dk_at dksX1_put_0 11 rfl rfl)
theorem dX1_put_12 : decode cX1_put 12 = .ok (.getfield 108, 3) := dk_180 0 108 (dk_at dksX1_put_0 12 rfl rfl)
theorem dX1_put_15 : decode cX1_put 15 = .ok (.iload_n 1, 1) := dk_27 (dk_at dksX1_put_0 15 rfl rfl)
theorem dX1_put_16 : decode cX1_put 16 = .ok (.iload_n 2, 1) := dk_28 (dk_at dksX1_put_0 16 rfl rfl)
theorem dX1_put_17 : decode cX1_put 17 = .ok (.ishr, 1) := dk_122 (dk_at dksX1_put_0 17 rfl rfl)
theorem dX1_put_18 : decode cX1_put 18 = .ok (.i2b, 1) := dk_145 (dk_at dksX1_put_0 18 rfl rfl)
theorem dX1_put_19 : decode cX1_put 19 = .ok (.bastore, 1) := dk_84 (dk_at dksX1_put_0 19 rfl rfl)
theorem dX1_put_20 : decode cX1_put 20 = .ok (.aload_n 0, 1) := dk_42 (dk_at dksX1_put_0 20 rfl rfl)
theorem dX1_put_21 : decode cX1_put 21 = .ok (.dup, 1) := dk_89 (dk_at dksX1_put_0 21 rfl rfl)
theorem dX1_put_22 : decode cX1_put 22 = .ok (.getfield 108, 3) := dk_180 0 108 (dk_at dksX1_put_1 0 rfl rfl)
theorem dX1_put_25 : decode cX1_put 25 = .ok (.iconst 1, 1) := dk_4 (dk_at dksX1_put_1 3 rfl rfl)
theorem dX1_put_26 : decode cX1_put 26 = .ok (.iadd, 1) := dk_96 (dk_at dksX1_put_1 4 rfl rfl)
theorem dX1_put_27 : decode cX1_put 27 = .ok (.putfield 108, 3) := dk_181 0 108 (dk_at dksX1_put_1 5 rfl rfl)
theorem dX1_put_30 : decode cX1_put 30 = .ok (.iinc 2 (-8), 3) := dk_132 2 248 (dk_at dksX1_put_1 8 rfl rfl)
theorem dX1_put_33 : decode cX1_put 33 = .ok (.goto (-30), 3) := dk_167 255 226 (dk_at dksX1_put_1 11 rfl rfl)
theorem dX1_put_36 : decode cX1_put 36 = .ok (.return_, 1) := dk_177 (dk_at dksX1_put_1 14 rfl rfl)
abbrev cX1_errorOffset : ByteArray := prog_1_method_15_code
def yX1_errorOffset : MethodName := ⟨RX1, "errorOffset", "()I"⟩
theorem dX1_errorOffset_0 : decode cX1_errorOffset 0 = .ok (.aload_n 0, 1) := by decide +kernel
theorem dX1_errorOffset_1 : decode cX1_errorOffset 1 = .ok (.getfield 41, 3) := by decide +kernel
theorem dX1_errorOffset_4 : decode cX1_errorOffset 4 = .ok (.ireturn, 1) := by decide +kernel
abbrev cX1_machineCount : ByteArray := prog_1_method_16_code
def yX1_machineCount : MethodName := ⟨RX1, "machineCount", "()I"⟩
def dkwX1_machineCount_0 : List UInt8 := [42, 180, 0, 37, 180, 0, 58, 180, 0, 76, 172]
abbrev dktX1_machineCount_0 : List UInt8 := dkwX1_machineCount_0 ++ []
theorem dksX1_machineCount_0 : cX1_machineCount.data.toList.drop 0 = dktX1_machineCount_0 := by decide +kernel
theorem dX1_machineCount_0 : decode cX1_machineCount 0 = .ok (.aload_n 0, 1) := dk_42 (dk_at dksX1_machineCount_0 0 rfl rfl)
theorem dX1_machineCount_1 : decode cX1_machineCount 1 = .ok (.getfield 37, 3) := dk_180 0 37 (dk_at dksX1_machineCount_0 1 rfl rfl)
theorem dX1_machineCount_4 : decode cX1_machineCount 4 = .ok (.getfield 58, 3) := dk_180 0 58 (dk_at dksX1_machineCount_0 4 rfl rfl)
theorem dX1_machineCount_7 : decode cX1_machineCount 7 = .ok (.getfield 76, 3) := dk_180 0 76 (dk_at dksX1_machineCount_0 7 rfl rfl)
theorem dX1_machineCount_10 : decode cX1_machineCount 10 = .ok (.ireturn, 1) := dk_172 (dk_at dksX1_machineCount_0 10 rfl rfl)
abbrev cX1_jobCount : ByteArray := prog_1_method_17_code
def yX1_jobCount : MethodName := ⟨RX1, "jobCount", "()I"⟩
def dkwX1_jobCount_0 : List UInt8 := [42, 180, 0, 37, 180, 0, 58, 180, 0, 62, 185, 0, 66, 1, 0, 172]
abbrev dktX1_jobCount_0 : List UInt8 := dkwX1_jobCount_0 ++ []
theorem dksX1_jobCount_0 : cX1_jobCount.data.toList.drop 0 = dktX1_jobCount_0 := by decide +kernel
theorem dX1_jobCount_0 : decode cX1_jobCount 0 = .ok (.aload_n 0, 1) := dk_42 (dk_at dksX1_jobCount_0 0 rfl rfl)
theorem dX1_jobCount_1 : decode cX1_jobCount 1 = .ok (.getfield 37, 3) := dk_180 0 37 (dk_at dksX1_jobCount_0 1 rfl rfl)
theorem dX1_jobCount_4 : decode cX1_jobCount 4 = .ok (.getfield 58, 3) := dk_180 0 58 (dk_at dksX1_jobCount_0 4 rfl rfl)
theorem dX1_jobCount_7 : decode cX1_jobCount 7 = .ok (.getfield 62, 3) := dk_180 0 62 (dk_at dksX1_jobCount_0 7 rfl rfl)
theorem dX1_jobCount_10 : decode cX1_jobCount 10 = .ok (.invokeinterface 66 1, 5) := by decide +kernel
theorem dX1_jobCount_15 : decode cX1_jobCount 15 = .ok (.ireturn, 1) := dk_172 (dk_at dksX1_jobCount_0 15 rfl rfl)
abbrev cX1_makespan : ByteArray := prog_1_method_25_code
def yX1_makespan : MethodName := ⟨RX1, "makespan", "()I"⟩
def dkwX1_makespan_0 : List UInt8 := [42, 180, 0, 37, 182, 0, 175, 172]
abbrev dktX1_makespan_0 : List UInt8 := dkwX1_makespan_0 ++ []
theorem dksX1_makespan_0 : cX1_makespan.data.toList.drop 0 = dktX1_makespan_0 := by decide +kernel
theorem dX1_makespan_0 : decode cX1_makespan 0 = .ok (.aload_n 0, 1) := dk_42 (dk_at dksX1_makespan_0 0 rfl rfl)
theorem dX1_makespan_1 : decode cX1_makespan 1 = .ok (.getfield 37, 3) := dk_180 0 37 (dk_at dksX1_makespan_0 1 rfl rfl)
theorem dX1_makespan_4 : decode cX1_makespan 4 = .ok (.invokevirtual 175, 3) := dk_182 0 175 (dk_at dksX1_makespan_0 4 rfl rfl)
theorem dX1_makespan_7 : decode cX1_makespan 7 = .ok (.ireturn, 1) := dk_172 (dk_at dksX1_makespan_0 7 rfl rfl)
abbrev cX1_planCost : ByteArray := prog_1_method_27_code
def yX1_planCost : MethodName := ⟨RX1, "planCost", "()I"⟩
def dkwX1_planCost_0 : List UInt8 := [42, 180, 0, 37, 182, 0, 181, 172]
abbrev dktX1_planCost_0 : List UInt8 := dkwX1_planCost_0 ++ []
theorem dksX1_planCost_0 : cX1_planCost.data.toList.drop 0 = dktX1_planCost_0 := by decide +kernel
theorem dX1_planCost_0 : decode cX1_planCost 0 = .ok (.aload_n 0, 1) := dk_42 (dk_at dksX1_planCost_0 0 rfl rfl)
theorem dX1_planCost_1 : decode cX1_planCost 1 = .ok (.getfield 37, 3) := dk_180 0 37 (dk_at dksX1_planCost_0 1 rfl rfl)
theorem dX1_planCost_4 : decode cX1_planCost 4 = .ok (.invokevirtual 181, 3) := dk_182 0 181 (dk_at dksX1_planCost_0 4 rfl rfl)
theorem dX1_planCost_7 : decode cX1_planCost 7 = .ok (.ireturn, 1) := dk_172 (dk_at dksX1_planCost_0 7 rfl rfl)
abbrev cX1_criticalLength : ByteArray := prog_1_method_29_code
def yX1_criticalLength : MethodName := ⟨RX1, "criticalLength", "()I"⟩
def dkwX1_criticalLength_0 : List UInt8 := [42, 180, 0, 37, 182, 0, 187, 182, 0, 191, 172]
abbrev dktX1_criticalLength_0 : List UInt8 := dkwX1_criticalLength_0 ++ []
theorem dksX1_criticalLength_0 : cX1_criticalLength.data.toList.drop 0 = dktX1_criticalLength_0 := by decide +kernel
theorem dX1_criticalLength_0 : decode cX1_criticalLength 0 = .ok (.aload_n 0, 1) := dk_42 (dk_at dksX1_criticalLength_0 0 rfl rfl)
theorem dX1_criticalLength_1 : decode cX1_criticalLength 1 = .ok (.getfield 37, 3) := dk_180 0 37 (dk_at dksX1_criticalLength_0 1 rfl rfl)
theorem dX1_criticalLength_4 : decode cX1_criticalLength 4 = .ok (.invokevirtual 187, 3) := dk_182 0 187 (dk_at dksX1_criticalLength_0 4 rfl rfl)
theorem dX1_criticalLength_7 : decode cX1_criticalLength 7 = .ok (.invokevirtual 191, 3) := dk_182 0 191 (dk_at dksX1_criticalLength_0 7 rfl rfl)
theorem dX1_criticalLength_10 : decode cX1_criticalLength 10 = .ok (.ireturn, 1) := dk_172 (dk_at dksX1_criticalLength_0 10 rfl rfl)
abbrev cX1_blockCount : ByteArray := prog_1_method_31_code
def yX1_blockCount : MethodName := ⟨RX1, "blockCount", "()I"⟩
def dkwX1_blockCount_0 : List UInt8 := [42, 180, 0, 37, 182, 0, 203, 185, 0, 66, 1, 0, 172]
abbrev dktX1_blockCount_0 : List UInt8 := dkwX1_blockCount_0 ++ []
theorem dksX1_blockCount_0 : cX1_blockCount.data.toList.drop 0 = dktX1_blockCount_0 := by decide +kernel
theorem dX1_blockCount_0 : decode cX1_blockCount 0 = .ok (.aload_n 0, 1) := dk_42 (dk_at dksX1_blockCount_0 0 rfl rfl)
theorem dX1_blockCount_1 : decode cX1_blockCount 1 = .ok (.getfield 37, 3) := dk_180 0 37 (dk_at dksX1_blockCount_0 1 rfl rfl)
theorem dX1_blockCount_4 : decode cX1_blockCount 4 = .ok (.invokevirtual 203, 3) := dk_182 0 203 (dk_at dksX1_blockCount_0 4 rfl rfl)
theorem dX1_blockCount_7 : decode cX1_blockCount 7 = .ok (.invokeinterface 66 1, 5) := by decide +kernel
theorem dX1_blockCount_12 : decode cX1_blockCount 12 = .ok (.ireturn, 1) := dk_172 (dk_at dksX1_blockCount_0 12 rfl rfl)
abbrev cX1_longestBlock : ByteArray := prog_1_method_32_code
def yX1_longestBlock : MethodName := ⟨RX1, "longestBlock", "()I"⟩
def dkwX1_longestBlock_1 : List UInt8 := [44, 185, 0, 217, 1, 0, 192, 0, 198, 182, 0, 200, 62, 27, 29, 184, 0, 220, 60, 167, 255, 228, 27, 172]
abbrev dktX1_longestBlock_1 : List UInt8 := dkwX1_longestBlock_1 ++ []
def dkwX1_longestBlock_0 : List UInt8 := [3, 60, 42, 180, 0, 37, 182, 0, 203, 185, 0, 207, 1, 0, 77, 44, 185, 0, 211, 1, 0, 153, 0, 25]
abbrev dktX1_longestBlock_0 : List UInt8 := dkwX1_longestBlock_0 ++ dktX1_longestBlock_1
theorem dksX1_longestBlock_0 : cX1_longestBlock.data.toList.drop 0 = dktX1_longestBlock_0 := by decide +kernel
theorem dksX1_longestBlock_1 : cX1_longestBlock.data.toList.drop 24 = dktX1_longestBlock_1 := dk_seg dksX1_longestBlock_0 24 rfl rfl
theorem dX1_longestBlock_0 : decode cX1_longestBlock 0 = .ok (.iconst 0, 1) := dk_3 (dk_at dksX1_longestBlock_0 0 rfl rfl)
theorem dX1_longestBlock_1 : decode cX1_longestBlock 1 = .ok (.istore_n 1, 1) := dk_60 (dk_at dksX1_longestBlock_0 1 rfl rfl)
theorem dX1_longestBlock_2 : decode cX1_longestBlock 2 = .ok (.aload_n 0, 1) := dk_42 (dk_at dksX1_longestBlock_0 2 rfl rfl)
theorem dX1_longestBlock_3 : decode cX1_longestBlock 3 = .ok (.getfield 37, 3) := dk_180 0 37 (dk_at dksX1_longestBlock_0 3 rfl rfl)
theorem dX1_longestBlock_6 : decode cX1_longestBlock 6 = .ok (.invokevirtual 203, 3) := dk_182 0 203 (dk_at dksX1_longestBlock_0 6 rfl rfl)
theorem dX1_longestBlock_9 : decode cX1_longestBlock 9 = .ok (.invokeinterface 207 1, 5) := by decide +kernel
theorem dX1_longestBlock_14 : decode cX1_longestBlock 14 = .ok (.astore_n 2, 1) := dk_77 (dk_at dksX1_longestBlock_0 14 rfl rfl)
theorem dX1_longestBlock_15 : decode cX1_longestBlock 15 = .ok (.aload_n 2, 1) := dk_44 (dk_at dksX1_longestBlock_0 15 rfl rfl)
theorem dX1_longestBlock_16 : decode cX1_longestBlock 16 = .ok (.invokeinterface 211 1, 5) := by decide +kernel
theorem dX1_longestBlock_21 : decode cX1_longestBlock 21 = .ok (.ifCond .eq 25, 3) := dk_153 0 25 (dk_at dksX1_longestBlock_0 21 rfl rfl)
theorem dX1_longestBlock_24 : decode cX1_longestBlock 24 = .ok (.aload_n 2, 1) := dk_44 (dk_at dksX1_longestBlock_1 0 rfl rfl)
theorem dX1_longestBlock_25 : decode cX1_longestBlock 25 = .ok (.invokeinterface 217 1, 5) := by decide +kernel
theorem dX1_longestBlock_30 : decode cX1_longestBlock 30 = .ok (.checkcast 198, 3) := dk_192 0 198 (dk_at dksX1_longestBlock_1 6 rfl rfl)
theorem dX1_longestBlock_33 : decode cX1_longestBlock 33 = .ok (.invokevirtual 200, 3) := dk_182 0 200 (dk_at dksX1_longestBlock_1 9 rfl rfl)
theorem dX1_longestBlock_36 : decode cX1_longestBlock 36 = .ok (.istore_n 3, 1) := dk_62 (dk_at dksX1_longestBlock_1 12 rfl rfl)
theorem dX1_longestBlock_37 : decode cX1_longestBlock 37 = .ok (.iload_n 1, 1) := dk_27 (dk_at dksX1_longestBlock_1 13 rfl rfl)
theorem dX1_longestBlock_38 : decode cX1_longestBlock 38 = .ok (.iload_n 3, 1) := dk_29 (dk_at dksX1_longestBlock_1 14 rfl rfl)
theorem dX1_longestBlock_39 : decode cX1_longestBlock 39 = .ok (.invokestatic 220, 3) := dk_184 0 220 (dk_at dksX1_longestBlock_1 15 rfl rfl)
theorem dX1_longestBlock_42 : decode cX1_longestBlock 42 = .ok (.istore_n 1, 1) := dk_60 (dk_at dksX1_longestBlock_1 18 rfl rfl)
theorem dX1_longestBlock_43 : decode cX1_longestBlock 43 = .ok (.goto (-28), 3) := dk_167 255 228 (dk_at dksX1_longestBlock_1 19 rfl rfl)
theorem dX1_longestBlock_46 : decode cX1_longestBlock 46 = .ok (.iload_n 1, 1) := dk_27 (dk_at dksX1_longestBlock_1 22 rfl rfl)
theorem dX1_longestBlock_47 : decode cX1_longestBlock 47 = .ok (.ireturn, 1) := dk_172 (dk_at dksX1_longestBlock_1 23 rfl rfl)
abbrev cX1_bestSwap : ByteArray := prog_1_method_36_code
def yX1_bestSwap : MethodName := ⟨RX1, "bestSwap", "()I"⟩
def dkwX1_bestSwap_1 : List UInt8 := [180, 0, 37, 180, 0, 58, 183, 0, 34, 182, 0, 244, 172]
abbrev dktX1_bestSwap_1 : List UInt8 := dkwX1_bestSwap_1 ++ []
def dkwX1_bestSwap_0 : List UInt8 := [42, 42, 180, 0, 37, 187, 0, 27, 89, 42, 180, 0, 37, 180, 0, 58, 183, 0, 34, 187, 0, 27, 89, 42]
abbrev dktX1_bestSwap_0 : List UInt8 := dkwX1_bestSwap_0 ++ dktX1_bestSwap_1
theorem dksX1_bestSwap_0 : cX1_bestSwap.data.toList.drop 0 = dktX1_bestSwap_0 := by decide +kernel
theorem dksX1_bestSwap_1 : cX1_bestSwap.data.toList.drop 24 = dktX1_bestSwap_1 := dk_seg dksX1_bestSwap_0 24 rfl rfl
theorem dX1_bestSwap_0 : decode cX1_bestSwap 0 = .ok (.aload_n 0, 1) := dk_42 (dk_at dksX1_bestSwap_0 0 rfl rfl)
theorem dX1_bestSwap_1 : decode cX1_bestSwap 1 = .ok (.aload_n 0, 1) := dk_42 (dk_at dksX1_bestSwap_0 1 rfl rfl)
theorem dX1_bestSwap_2 : decode cX1_bestSwap 2 = .ok (.getfield 37, 3) := dk_180 0 37 (dk_at dksX1_bestSwap_0 2 rfl rfl)
theorem dX1_bestSwap_5 : decode cX1_bestSwap 5 = .ok (.new 27, 3) := dk_187 0 27 (dk_at dksX1_bestSwap_0 5 rfl rfl)
theorem dX1_bestSwap_8 : decode cX1_bestSwap 8 = .ok (.dup, 1) := dk_89 (dk_at dksX1_bestSwap_0 8 rfl rfl)
theorem dX1_bestSwap_9 : decode cX1_bestSwap 9 = .ok (.aload_n 0, 1) := dk_42 (dk_at dksX1_bestSwap_0 9 rfl rfl)
theorem dX1_bestSwap_10 : decode cX1_bestSwap 10 = .ok (.getfield 37, 3) := dk_180 0 37 (dk_at dksX1_bestSwap_0 10 rfl rfl)
theorem dX1_bestSwap_13 : decode cX1_bestSwap 13 = .ok (.getfield 58, 3) := dk_180 0 58 (dk_at dksX1_bestSwap_0 13 rfl rfl)
theorem dX1_bestSwap_16 : decode cX1_bestSwap 16 = .ok (.invokespecial 34, 3) := dk_183 0 34 (dk_at dksX1_bestSwap_0 16 rfl rfl)
theorem dX1_bestSwap_19 : decode cX1_bestSwap 19 = .ok (.new 27, 3) := dk_187 0 27 (dk_at dksX1_bestSwap_0 19 rfl rfl)
theorem dX1_bestSwap_22 : decode cX1_bestSwap 22 = .ok (.dup, 1) := dk_89 (dk_at dksX1_bestSwap_0 22 rfl rfl)
theorem dX1_bestSwap_23 : decode cX1_bestSwap 23 = .ok (.aload_n 0, 1) := dk_42 (dk_at dksX1_bestSwap_0 23 rfl rfl)
theorem dX1_bestSwap_24 : decode cX1_bestSwap 24 = .ok (.getfield 37, 3) := dk_180 0 37 (dk_at dksX1_bestSwap_1 0 rfl rfl)
theorem dX1_bestSwap_27 : decode cX1_bestSwap 27 = .ok (.getfield 58, 3) := dk_180 0 58 (dk_at dksX1_bestSwap_1 3 rfl rfl)
theorem dX1_bestSwap_30 : decode cX1_bestSwap 30 = .ok (.invokespecial 34, 3) := dk_183 0 34 (dk_at dksX1_bestSwap_1 6 rfl rfl)
theorem dX1_bestSwap_33 : decode cX1_bestSwap 33 = .ok (.invokevirtual 244, 3) := dk_182 0 244 (dk_at dksX1_bestSwap_1 9 rfl rfl)
theorem dX1_bestSwap_36 : decode cX1_bestSwap 36 = .ok (.ireturn, 1) := dk_172 (dk_at dksX1_bestSwap_1 12 rfl rfl)
abbrev cX1_bestOf : ByteArray := prog_1_method_35_code
def yX1_bestOf : MethodName := ⟨RX1, "bestOf", "(LBlockingShop$Plan;LBlockingShop$Plan;LBlockingShop$Plan;)I"⟩
def dkwX1_bestOf_4 : List UInt8 := [167, 255, 183, 132, 5, 1, 167, 255, 162, 21, 4, 172]
abbrev dktX1_bestOf_4 : List UInt8 := dkwX1_bestOf_4 ++ []
def dkwX1_bestOf_3 : List UInt8 := [154, 0, 6, 167, 0, 18, 16, 100, 21, 5, 104, 21, 6, 96, 54, 4, 45, 44, 182, 0, 237, 132, 6, 1]
abbrev dktX1_bestOf_3 : List UInt8 := dkwX1_bestOf_3 ++ dktX1_bestOf_4
def dkwX1_bestOf_2 : List UInt8 := [44, 42, 180, 0, 23, 182, 0, 127, 153, 0, 35, 21, 4, 2, 159, 0, 14, 44, 45, 182, 0, 240]
abbrev dktX1_bestOf_2 : List UInt8 := dkwX1_bestOf_2 ++ dktX1_bestOf_3
def dkwX1_bestOf_1 : List UInt8 := [180, 0, 83, 21, 5, 46, 4, 100, 162, 0, 65, 44, 43, 182, 0, 237, 44, 21, 5, 21, 6, 182, 0, 234]
abbrev dktX1_bestOf_1 : List UInt8 := dkwX1_bestOf_1 ++ dktX1_bestOf_2
def dkwX1_bestOf_0 : List UInt8 := [2, 54, 4, 3, 54, 5, 21, 5, 43, 180, 0, 58, 180, 0, 76, 162, 0, 88, 3, 54, 6, 21, 6, 43]
abbrev dktX1_bestOf_0 : List UInt8 := dkwX1_bestOf_0 ++ dktX1_bestOf_1
theorem dksX1_bestOf_0 : cX1_bestOf.data.toList.drop 0 = dktX1_bestOf_0 := by decide +kernel
theorem dksX1_bestOf_1 : cX1_bestOf.data.toList.drop 24 = dktX1_bestOf_1 := dk_seg dksX1_bestOf_0 24 rfl rfl
theorem dksX1_bestOf_2 : cX1_bestOf.data.toList.drop 48 = dktX1_bestOf_2 := dk_seg dksX1_bestOf_1 24 rfl rfl
theorem dksX1_bestOf_3 : cX1_bestOf.data.toList.drop 70 = dktX1_bestOf_3 := dk_seg dksX1_bestOf_2 22 rfl rfl
theorem dksX1_bestOf_4 : cX1_bestOf.data.toList.drop 94 = dktX1_bestOf_4 := dk_seg dksX1_bestOf_3 24 rfl rfl
theorem dX1_bestOf_0 : decode cX1_bestOf 0 = .ok (.iconst (-1), 1) := dk_2 (dk_at dksX1_bestOf_0 0 rfl rfl)
theorem dX1_bestOf_1 : decode cX1_bestOf 1 = .ok (.istore 4, 2) := dk_54 4 (dk_at dksX1_bestOf_0 1 rfl rfl)
theorem dX1_bestOf_3 : decode cX1_bestOf 3 = .ok (.iconst 0, 1) := dk_3 (dk_at dksX1_bestOf_0 3 rfl rfl)
theorem dX1_bestOf_4 : decode cX1_bestOf 4 = .ok (.istore 5, 2) := dk_54 5 (dk_at dksX1_bestOf_0 4 rfl rfl)
theorem dX1_bestOf_6 : decode cX1_bestOf 6 = .ok (.iload 5, 2) := dk_21 5 (dk_at dksX1_bestOf_0 6 rfl rfl)
theorem dX1_bestOf_8 : decode cX1_bestOf 8 = .ok (.aload_n 1, 1) := dk_43 (dk_at dksX1_bestOf_0 8 rfl rfl)
theorem dX1_bestOf_9 : decode cX1_bestOf 9 = .ok (.getfield 58, 3) := dk_180 0 58 (dk_at dksX1_bestOf_0 9 rfl rfl)
theorem dX1_bestOf_12 : decode cX1_bestOf 12 = .ok (.getfield 76, 3) := dk_180 0 76 (dk_at dksX1_bestOf_0 12 rfl rfl)
theorem dX1_bestOf_15 : decode cX1_bestOf 15 = .ok (.if_icmp .ge 88, 3) := dk_162 0 88 (dk_at dksX1_bestOf_0 15 rfl rfl)
theorem dX1_bestOf_18 : decode cX1_bestOf 18 = .ok (.iconst 0, 1) := dk_3 (dk_at dksX1_bestOf_0 18 rfl rfl)
theorem dX1_bestOf_19 : decode cX1_bestOf 19 = .ok (.istore 6, 2) := dk_54 6 (dk_at dksX1_bestOf_0 19 rfl rfl)
theorem dX1_bestOf_21 : decode cX1_bestOf 21 = .ok (.iload 6, 2) := dk_21 6 (dk_at dksX1_bestOf_0 21 rfl rfl)
theorem dX1_bestOf_23 : decode cX1_bestOf 23 = .ok (.aload_n 1, 1) := dk_43 (dk_at dksX1_bestOf_0 23 rfl rfl)
theorem dX1_bestOf_24 : decode cX1_bestOf 24 = .ok (.getfield 83, 3) := dk_180 0 83 (dk_at dksX1_bestOf_1 0 rfl rfl)
theorem dX1_bestOf_27 : decode cX1_bestOf 27 = .ok (.iload 5, 2) := dk_21 5 (dk_at dksX1_bestOf_1 3 rfl rfl)
theorem dX1_bestOf_29 : decode cX1_bestOf 29 = .ok (.iaload, 1) := dk_46 (dk_at dksX1_bestOf_1 5 rfl rfl)
theorem dX1_bestOf_30 : decode cX1_bestOf 30 = .ok (.iconst 1, 1) := dk_4 (dk_at dksX1_bestOf_1 6 rfl rfl)
theorem dX1_bestOf_31 : decode cX1_bestOf 31 = .ok (.isub, 1) := dk_100 (dk_at dksX1_bestOf_1 7 rfl rfl)
theorem dX1_bestOf_32 : decode cX1_bestOf 32 = .ok (.if_icmp .ge 65, 3) := dk_162 0 65 (dk_at dksX1_bestOf_1 8 rfl rfl)
theorem dX1_bestOf_35 : decode cX1_bestOf 35 = .ok (.aload_n 2, 1) := dk_44 (dk_at dksX1_bestOf_1 11 rfl rfl)
theorem dX1_bestOf_36 : decode cX1_bestOf 36 = .ok (.aload_n 1, 1) := dk_43 (dk_at dksX1_bestOf_1 12 rfl rfl)
theorem dX1_bestOf_37 : decode cX1_bestOf 37 = .ok (.invokevirtual 237, 3) := dk_182 0 237 (dk_at dksX1_bestOf_1 13 rfl rfl)
theorem dX1_bestOf_40 : decode cX1_bestOf 40 = .ok (.aload_n 2, 1) := dk_44 (dk_at dksX1_bestOf_1 16 rfl rfl)
theorem dX1_bestOf_41 : decode cX1_bestOf 41 = .ok (.iload 5, 2) := dk_21 5 (dk_at dksX1_bestOf_1 17 rfl rfl)
theorem dX1_bestOf_43 : decode cX1_bestOf 43 = .ok (.iload 6, 2) := dk_21 6 (dk_at dksX1_bestOf_1 19 rfl rfl)
theorem dX1_bestOf_45 : decode cX1_bestOf 45 = .ok (.invokevirtual 234, 3) := dk_182 0 234 (dk_at dksX1_bestOf_1 21 rfl rfl)
theorem dX1_bestOf_48 : decode cX1_bestOf 48 = .ok (.aload_n 2, 1) := dk_44 (dk_at dksX1_bestOf_2 0 rfl rfl)
theorem dX1_bestOf_49 : decode cX1_bestOf 49 = .ok (.aload_n 0, 1) := dk_42 (dk_at dksX1_bestOf_2 1 rfl rfl)
theorem dX1_bestOf_50 : decode cX1_bestOf 50 = .ok (.getfield 23, 3) := dk_180 0 23 (dk_at dksX1_bestOf_2 2 rfl rfl)
theorem dX1_bestOf_53 : decode cX1_bestOf 53 = .ok (.invokevirtual 127, 3) := dk_182 0 127 (dk_at dksX1_bestOf_2 5 rfl rfl)
theorem dX1_bestOf_56 : decode cX1_bestOf 56 = .ok (.ifCond .eq 35, 3) := dk_153 0 35 (dk_at dksX1_bestOf_2 8 rfl rfl)
theorem dX1_bestOf_59 : decode cX1_bestOf 59 = .ok (.iload 4, 2) := dk_21 4 (dk_at dksX1_bestOf_2 11 rfl rfl)
theorem dX1_bestOf_61 : decode cX1_bestOf 61 = .ok (.iconst (-1), 1) := dk_2 (dk_at dksX1_bestOf_2 13 rfl rfl)
theorem dX1_bestOf_62 : decode cX1_bestOf 62 = .ok (.if_icmp .eq 14, 3) := dk_159 0 14 (dk_at dksX1_bestOf_2 14 rfl rfl)
theorem dX1_bestOf_65 : decode cX1_bestOf 65 = .ok (.aload_n 2, 1) := dk_44 (dk_at dksX1_bestOf_2 17 rfl rfl)
theorem dX1_bestOf_66 : decode cX1_bestOf 66 = .ok (.aload_n 3, 1) := dk_45 (dk_at dksX1_bestOf_2 18 rfl rfl)
theorem dX1_bestOf_67 : decode cX1_bestOf 67 = .ok (.invokevirtual 240, 3) := dk_182 0 240 (dk_at dksX1_bestOf_2 19 rfl rfl)
theorem dX1_bestOf_70 : decode cX1_bestOf 70 = .ok (.ifCond .ne 6, 3) := dk_154 0 6 (dk_at dksX1_bestOf_3 0 rfl rfl)
theorem dX1_bestOf_73 : decode cX1_bestOf 73 = .ok (.goto 18, 3) := dk_167 0 18 (dk_at dksX1_bestOf_3 3 rfl rfl)
theorem dX1_bestOf_76 : decode cX1_bestOf 76 = .ok (.bipush 100, 2) := dk_16 100 (dk_at dksX1_bestOf_3 6 rfl rfl)
theorem dX1_bestOf_78 : decode cX1_bestOf 78 = .ok (.iload 5, 2) := dk_21 5 (dk_at dksX1_bestOf_3 8 rfl rfl)
theorem dX1_bestOf_80 : decode cX1_bestOf 80 = .ok (.imul, 1) := dk_104 (dk_at dksX1_bestOf_3 10 rfl rfl)
theorem dX1_bestOf_81 : decode cX1_bestOf 81 = .ok (.iload 6, 2) := dk_21 6 (dk_at dksX1_bestOf_3 11 rfl rfl)
theorem dX1_bestOf_83 : decode cX1_bestOf 83 = .ok (.iadd, 1) := dk_96 (dk_at dksX1_bestOf_3 13 rfl rfl)
theorem dX1_bestOf_84 : decode cX1_bestOf 84 = .ok (.istore 4, 2) := dk_54 4 (dk_at dksX1_bestOf_3 14 rfl rfl)
theorem dX1_bestOf_86 : decode cX1_bestOf 86 = .ok (.aload_n 3, 1) := dk_45 (dk_at dksX1_bestOf_3 16 rfl rfl)
theorem dX1_bestOf_87 : decode cX1_bestOf 87 = .ok (.aload_n 2, 1) := dk_44 (dk_at dksX1_bestOf_3 17 rfl rfl)
theorem dX1_bestOf_88 : decode cX1_bestOf 88 = .ok (.invokevirtual 237, 3) := dk_182 0 237 (dk_at dksX1_bestOf_3 18 rfl rfl)
theorem dX1_bestOf_91 : decode cX1_bestOf 91 = .ok (.iinc 6 1, 3) := dk_132 6 1 (dk_at dksX1_bestOf_3 21 rfl rfl)
theorem dX1_bestOf_94 : decode cX1_bestOf 94 = .ok (.goto (-73), 3) := dk_167 255 183 (dk_at dksX1_bestOf_4 0 rfl rfl)
theorem dX1_bestOf_97 : decode cX1_bestOf 97 = .ok (.iinc 5 1, 3) := dk_132 5 1 (dk_at dksX1_bestOf_4 3 rfl rfl)
theorem dX1_bestOf_100 : decode cX1_bestOf 100 = .ok (.goto (-94), 3) := dk_167 255 162 (dk_at dksX1_bestOf_4 6 rfl rfl)
theorem dX1_bestOf_103 : decode cX1_bestOf 103 = .ok (.iload 4, 2) := dk_21 4 (dk_at dksX1_bestOf_4 9 rfl rfl)
theorem dX1_bestOf_105 : decode cX1_bestOf 105 = .ok (.ireturn, 1) := dk_172 (dk_at dksX1_bestOf_4 11 rfl rfl)
abbrev cX1_restart : ByteArray := prog_1_method_42_code
def yX1_restart : MethodName := ⟨RX1, "restart", "()I"⟩
def dkwX1_restart_1 : List UInt8 := [182, 0, 131, 43, 182, 0, 175, 172]
abbrev dktX1_restart_1 : List UInt8 := dkwX1_restart_1 ++ []
def dkwX1_restart_0 : List UInt8 := [42, 180, 0, 37, 182, 0, 231, 76, 43, 182, 1, 6, 43, 42, 180, 0, 23, 182, 0, 127, 61, 42, 43]
abbrev dktX1_restart_0 : List UInt8 := dkwX1_restart_0 ++ dktX1_restart_1
theorem dksX1_restart_0 : cX1_restart.data.toList.drop 0 = dktX1_restart_0 := by decide +kernel
theorem dksX1_restart_1 : cX1_restart.data.toList.drop 23 = dktX1_restart_1 := dk_seg dksX1_restart_0 23 rfl rfl
theorem dX1_restart_0 : decode cX1_restart 0 = .ok (.aload_n 0, 1) := dk_42 (dk_at dksX1_restart_0 0 rfl rfl)
theorem dX1_restart_1 : decode cX1_restart 1 = .ok (.getfield 37, 3) := dk_180 0 37 (dk_at dksX1_restart_0 1 rfl rfl)
theorem dX1_restart_4 : decode cX1_restart 4 = .ok (.invokevirtual 231, 3) := dk_182 0 231 (dk_at dksX1_restart_0 4 rfl rfl)
theorem dX1_restart_7 : decode cX1_restart 7 = .ok (.astore_n 1, 1) := dk_76 (dk_at dksX1_restart_0 7 rfl rfl)
theorem dX1_restart_8 : decode cX1_restart 8 = .ok (.aload_n 1, 1) := dk_43 (dk_at dksX1_restart_0 8 rfl rfl)
theorem dX1_restart_9 : decode cX1_restart 9 = .ok (.invokevirtual 262, 3) := dk_182 1 6 (dk_at dksX1_restart_0 9 rfl rfl)
theorem dX1_restart_12 : decode cX1_restart 12 = .ok (.aload_n 1, 1) := dk_43 (dk_at dksX1_restart_0 12 rfl rfl)
theorem dX1_restart_13 : decode cX1_restart 13 = .ok (.aload_n 0, 1) := dk_42 (dk_at dksX1_restart_0 13 rfl rfl)
theorem dX1_restart_14 : decode cX1_restart 14 = .ok (.getfield 23, 3) := dk_180 0 23 (dk_at dksX1_restart_0 14 rfl rfl)
theorem dX1_restart_17 : decode cX1_restart 17 = .ok (.invokevirtual 127, 3) := dk_182 0 127 (dk_at dksX1_restart_0 17 rfl rfl)
theorem dX1_restart_20 : decode cX1_restart 20 = .ok (.istore_n 2, 1) := dk_61 (dk_at dksX1_restart_0 20 rfl rfl)
theorem dX1_restart_21 : decode cX1_restart 21 = .ok (.aload_n 0, 1) := dk_42 (dk_at dksX1_restart_0 21 rfl rfl)
theorem dX1_restart_22 : decode cX1_restart 22 = .ok (.aload_n 1, 1) := dk_43 (dk_at dksX1_restart_0 22 rfl rfl)
theorem dX1_restart_23 : decode cX1_restart 23 = .ok (.invokevirtual 131, 3) := dk_182 0 131 (dk_at dksX1_restart_1 0 rfl rfl)
theorem dX1_restart_26 : decode cX1_restart 26 = .ok (.aload_n 1, 1) := dk_43 (dk_at dksX1_restart_1 3 rfl rfl)
theorem dX1_restart_27 : decode cX1_restart 27 = .ok (.invokevirtual 175, 3) := dk_182 0 175 (dk_at dksX1_restart_1 4 rfl rfl)
theorem dX1_restart_30 : decode cX1_restart 30 = .ok (.ireturn, 1) := dk_172 (dk_at dksX1_restart_1 7 rfl rfl)
abbrev cX1_replace : ByteArray := prog_1_method_11_code
def yX1_replace : MethodName := ⟨RX1, "replace", "(LBlockingShop$Plan;)V"⟩
def dkwX1_replace_1 : List UInt8 := [42, 180, 0, 37, 182, 0, 104, 42, 43, 181, 0, 37, 177]
abbrev dktX1_replace_1 : List UInt8 := dkwX1_replace_1 ++ []
def dkwX1_replace_0 : List UInt8 := [42, 180, 0, 16, 182, 0, 99, 16, 8, 160, 0, 11, 42, 180, 0, 16, 182, 0, 100, 87, 42, 180, 0, 16]
abbrev dktX1_replace_0 : List UInt8 := dkwX1_replace_0 ++ dktX1_replace_1
theorem dksX1_replace_0 : cX1_replace.data.toList.drop 0 = dktX1_replace_0 := by decide +kernel
theorem dksX1_replace_1 : cX1_replace.data.toList.drop 24 = dktX1_replace_1 := dk_seg dksX1_replace_0 24 rfl rfl
theorem dX1_replace_0 : decode cX1_replace 0 = .ok (.aload_n 0, 1) := dk_42 (dk_at dksX1_replace_0 0 rfl rfl)
theorem dX1_replace_1 : decode cX1_replace 1 = .ok (.getfield 16, 3) := dk_180 0 16 (dk_at dksX1_replace_0 1 rfl rfl)
theorem dX1_replace_4 : decode cX1_replace 4 = .ok (.invokevirtual 99, 3) := dk_182 0 99 (dk_at dksX1_replace_0 4 rfl rfl)
theorem dX1_replace_7 : decode cX1_replace 7 = .ok (.bipush 8, 2) := dk_16 8 (dk_at dksX1_replace_0 7 rfl rfl)
theorem dX1_replace_9 : decode cX1_replace 9 = .ok (.if_icmp .ne 11, 3) := dk_160 0 11 (dk_at dksX1_replace_0 9 rfl rfl)
theorem dX1_replace_12 : decode cX1_replace 12 = .ok (.aload_n 0, 1) := dk_42 (dk_at dksX1_replace_0 12 rfl rfl)
theorem dX1_replace_13 : decode cX1_replace 13 = .ok (.getfield 16, 3) := dk_180 0 16 (dk_at dksX1_replace_0 13 rfl rfl)
theorem dX1_replace_16 : decode cX1_replace 16 = .ok (.invokevirtual 100, 3) := dk_182 0 100 (dk_at dksX1_replace_0 16 rfl rfl)
theorem dX1_replace_19 : decode cX1_replace 19 = .ok (.pop, 1) := dk_87 (dk_at dksX1_replace_0 19 rfl rfl)
theorem dX1_replace_20 : decode cX1_replace 20 = .ok (.aload_n 0, 1) := dk_42 (dk_at dksX1_replace_0 20 rfl rfl)
theorem dX1_replace_21 : decode cX1_replace 21 = .ok (.getfield 16, 3) := dk_180 0 16 (dk_at dksX1_replace_0 21 rfl rfl)
theorem dX1_replace_24 : decode cX1_replace 24 = .ok (.aload_n 0, 1) := dk_42 (dk_at dksX1_replace_1 0 rfl rfl)
theorem dX1_replace_25 : decode cX1_replace 25 = .ok (.getfield 37, 3) := dk_180 0 37 (dk_at dksX1_replace_1 1 rfl rfl)
theorem dX1_replace_28 : decode cX1_replace 28 = .ok (.invokevirtual 104, 3) := dk_182 0 104 (dk_at dksX1_replace_1 4 rfl rfl)
theorem dX1_replace_31 : decode cX1_replace 31 = .ok (.aload_n 0, 1) := dk_42 (dk_at dksX1_replace_1 7 rfl rfl)
theorem dX1_replace_32 : decode cX1_replace 32 = .ok (.aload_n 1, 1) := dk_43 (dk_at dksX1_replace_1 8 rfl rfl)
theorem dX1_replace_33 : decode cX1_replace 33 = .ok (.putfield 37, 3) := dk_181 0 37 (dk_at dksX1_replace_1 9 rfl rfl)
theorem dX1_replace_36 : decode cX1_replace 36 = .ok (.return_, 1) := dk_177 (dk_at dksX1_replace_1 12 rfl rfl)
abbrev cX1_undo : ByteArray := prog_1_method_43_code
def yX1_undo : MethodName := ⟨RX1, "undo", "()I"⟩
def dkwX1_undo_1 : List UInt8 := [181, 0, 37, 42, 180, 0, 16, 182, 0, 99, 172]
abbrev dktX1_undo_1 : List UInt8 := dkwX1_undo_1 ++ []
def dkwX1_undo_0 : List UInt8 := [42, 180, 0, 16, 182, 1, 9, 153, 0, 5, 2, 172, 42, 42, 180, 0, 16, 182, 1, 12, 192, 0, 27]
abbrev dktX1_undo_0 : List UInt8 := dkwX1_undo_0 ++ dktX1_undo_1
theorem dksX1_undo_0 : cX1_undo.data.toList.drop 0 = dktX1_undo_0 := by decide +kernel
theorem dksX1_undo_1 : cX1_undo.data.toList.drop 23 = dktX1_undo_1 := dk_seg dksX1_undo_0 23 rfl rfl
theorem dX1_undo_0 : decode cX1_undo 0 = .ok (.aload_n 0, 1) := dk_42 (dk_at dksX1_undo_0 0 rfl rfl)
theorem dX1_undo_1 : decode cX1_undo 1 = .ok (.getfield 16, 3) := dk_180 0 16 (dk_at dksX1_undo_0 1 rfl rfl)
theorem dX1_undo_4 : decode cX1_undo 4 = .ok (.invokevirtual 265, 3) := dk_182 1 9 (dk_at dksX1_undo_0 4 rfl rfl)
theorem dX1_undo_7 : decode cX1_undo 7 = .ok (.ifCond .eq 5, 3) := dk_153 0 5 (dk_at dksX1_undo_0 7 rfl rfl)
theorem dX1_undo_10 : decode cX1_undo 10 = .ok (.iconst (-1), 1) := dk_2 (dk_at dksX1_undo_0 10 rfl rfl)
theorem dX1_undo_11 : decode cX1_undo 11 = .ok (.ireturn, 1) := dk_172 (dk_at dksX1_undo_0 11 rfl rfl)
theorem dX1_undo_12 : decode cX1_undo 12 = .ok (.aload_n 0, 1) := dk_42 (dk_at dksX1_undo_0 12 rfl rfl)
theorem dX1_undo_13 : decode cX1_undo 13 = .ok (.aload_n 0, 1) := dk_42 (dk_at dksX1_undo_0 13 rfl rfl)
theorem dX1_undo_14 : decode cX1_undo 14 = .ok (.getfield 16, 3) := dk_180 0 16 (dk_at dksX1_undo_0 14 rfl rfl)
theorem dX1_undo_17 : decode cX1_undo 17 = .ok (.invokevirtual 268, 3) := dk_182 1 12 (dk_at dksX1_undo_0 17 rfl rfl)
theorem dX1_undo_20 : decode cX1_undo 20 = .ok (.checkcast 27, 3) := dk_192 0 27 (dk_at dksX1_undo_0 20 rfl rfl)
theorem dX1_undo_23 : decode cX1_undo 23 = .ok (.putfield 37, 3) := dk_181 0 37 (dk_at dksX1_undo_1 0 rfl rfl)
theorem dX1_undo_26 : decode cX1_undo 26 = .ok (.aload_n 0, 1) := dk_42 (dk_at dksX1_undo_1 3 rfl rfl)
theorem dX1_undo_27 : decode cX1_undo 27 = .ok (.getfield 16, 3) := dk_180 0 16 (dk_at dksX1_undo_1 4 rfl rfl)
theorem dX1_undo_30 : decode cX1_undo 30 = .ok (.invokevirtual 99, 3) := dk_182 0 99 (dk_at dksX1_undo_1 7 rfl rfl)
theorem dX1_undo_33 : decode cX1_undo 33 = .ok (.ireturn, 1) := dk_172 (dk_at dksX1_undo_1 10 rfl rfl)
abbrev cX1_checksum : ByteArray := prog_1_method_45_code
def yX1_checksum : MethodName := ⟨RX1, "checksum", "()J"⟩
def dkwX1_checksum_5 : List UInt8 := [133, 184, 1, 17, 64, 132, 3, 1, 167, 255, 218, 31, 173]
abbrev dktX1_checksum_5 : List UInt8 := dkwX1_checksum_5 ++ []
def dkwX1_checksum_4 : List UInt8 := [42, 180, 0, 37, 180, 0, 58, 29, 182, 1, 21, 153, 0, 18, 31, 42, 180, 0, 37, 180, 0, 166, 29, 46]
abbrev dktX1_checksum_4 : List UInt8 := dkwX1_checksum_4 ++ dktX1_checksum_5
def dkwX1_checksum_3 : List UInt8 := [184, 1, 17, 64, 132, 4, 1, 167, 255, 218, 132, 3, 1, 167, 255, 195, 3, 62, 29, 16, 36, 162, 0, 38]
abbrev dktX1_checksum_3 : List UInt8 := dkwX1_checksum_3 ++ dktX1_checksum_4
def dkwX1_checksum_2 : List UInt8 := [29, 46, 162, 0, 30, 31, 42, 180, 0, 37, 180, 0, 159, 29, 50, 21, 4, 46, 184, 0, 163, 133]
abbrev dktX1_checksum_2 : List UInt8 := dkwX1_checksum_2 ++ dktX1_checksum_3
def dkwX1_checksum_1 : List UInt8 := [180, 0, 37, 180, 0, 58, 180, 0, 76, 162, 0, 53, 3, 54, 4, 21, 4, 42, 180, 0, 37, 180, 0, 83]
abbrev dktX1_checksum_1 : List UInt8 := dkwX1_checksum_1 ++ dktX1_checksum_2
def dkwX1_checksum_0 : List UInt8 := [42, 180, 0, 37, 182, 0, 175, 133, 42, 180, 0, 37, 182, 0, 181, 133, 184, 1, 17, 64, 3, 62, 29, 42]
abbrev dktX1_checksum_0 : List UInt8 := dkwX1_checksum_0 ++ dktX1_checksum_1
theorem dksX1_checksum_0 : cX1_checksum.data.toList.drop 0 = dktX1_checksum_0 := by decide +kernel
theorem dksX1_checksum_1 : cX1_checksum.data.toList.drop 24 = dktX1_checksum_1 := dk_seg dksX1_checksum_0 24 rfl rfl
theorem dksX1_checksum_2 : cX1_checksum.data.toList.drop 48 = dktX1_checksum_2 := dk_seg dksX1_checksum_1 24 rfl rfl
theorem dksX1_checksum_3 : cX1_checksum.data.toList.drop 70 = dktX1_checksum_3 := dk_seg dksX1_checksum_2 22 rfl rfl
theorem dksX1_checksum_4 : cX1_checksum.data.toList.drop 94 = dktX1_checksum_4 := dk_seg dksX1_checksum_3 24 rfl rfl
theorem dksX1_checksum_5 : cX1_checksum.data.toList.drop 118 = dktX1_checksum_5 := dk_seg dksX1_checksum_4 24 rfl rfl
theorem dX1_checksum_0 : decode cX1_checksum 0 = .ok (.aload_n 0, 1) := dk_42 (dk_at dksX1_checksum_0 0 rfl rfl)
theorem dX1_checksum_1 : decode cX1_checksum 1 = .ok (.getfield 37, 3) := dk_180 0 37 (dk_at dksX1_checksum_0 1 rfl rfl)
theorem dX1_checksum_4 : decode cX1_checksum 4 = .ok (.invokevirtual 175, 3) := dk_182 0 175 (dk_at dksX1_checksum_0 4 rfl rfl)
theorem dX1_checksum_7 : decode cX1_checksum 7 = .ok (.i2l, 1) := dk_133 (dk_at dksX1_checksum_0 7 rfl rfl)
theorem dX1_checksum_8 : decode cX1_checksum 8 = .ok (.aload_n 0, 1) := dk_42 (dk_at dksX1_checksum_0 8 rfl rfl)
theorem dX1_checksum_9 : decode cX1_checksum 9 = .ok (.getfield 37, 3) := dk_180 0 37 (dk_at dksX1_checksum_0 9 rfl rfl)
theorem dX1_checksum_12 : decode cX1_checksum 12 = .ok (.invokevirtual 181, 3) := dk_182 0 181 (dk_at dksX1_checksum_0 12 rfl rfl)
theorem dX1_checksum_15 : decode cX1_checksum 15 = .ok (.i2l, 1) := dk_133 (dk_at dksX1_checksum_0 15 rfl rfl)
theorem dX1_checksum_16 : decode cX1_checksum 16 = .ok (.invokestatic 273, 3) := dk_184 1 17 (dk_at dksX1_checksum_0 16 rfl rfl)
theorem dX1_checksum_19 : decode cX1_checksum 19 = .ok (.lstore_n 1, 1) := dk_64 (dk_at dksX1_checksum_0 19 rfl rfl)
theorem dX1_checksum_20 : decode cX1_checksum 20 = .ok (.iconst 0, 1) := dk_3 (dk_at dksX1_checksum_0 20 rfl rfl)
theorem dX1_checksum_21 : decode cX1_checksum 21 = .ok (.istore_n 3, 1) := dk_62 (dk_at dksX1_checksum_0 21 rfl rfl)
theorem dX1_checksum_22 : decode cX1_checksum 22 = .ok (.iload_n 3, 1) := dk_29 (dk_at dksX1_checksum_0 22 rfl rfl)
theorem dX1_checksum_23 : decode cX1_checksum 23 = .ok (.aload_n 0, 1) := dk_42 (dk_at dksX1_checksum_0 23 rfl rfl)
theorem dX1_checksum_24 : decode cX1_checksum 24 = .ok (.getfield 37, 3) := dk_180 0 37 (dk_at dksX1_checksum_1 0 rfl rfl)
theorem dX1_checksum_27 : decode cX1_checksum 27 = .ok (.getfield 58, 3) := dk_180 0 58 (dk_at dksX1_checksum_1 3 rfl rfl)
theorem dX1_checksum_30 : decode cX1_checksum 30 = .ok (.getfield 76, 3) := dk_180 0 76 (dk_at dksX1_checksum_1 6 rfl rfl)
theorem dX1_checksum_33 : decode cX1_checksum 33 = .ok (.if_icmp .ge 53, 3) := dk_162 0 53 (dk_at dksX1_checksum_1 9 rfl rfl)
theorem dX1_checksum_36 : decode cX1_checksum 36 = .ok (.iconst 0, 1) := dk_3 (dk_at dksX1_checksum_1 12 rfl rfl)
theorem dX1_checksum_37 : decode cX1_checksum 37 = .ok (.istore 4, 2) := dk_54 4 (dk_at dksX1_checksum_1 13 rfl rfl)
theorem dX1_checksum_39 : decode cX1_checksum 39 = .ok (.iload 4, 2) := dk_21 4 (dk_at dksX1_checksum_1 15 rfl rfl)
theorem dX1_checksum_41 : decode cX1_checksum 41 = .ok (.aload_n 0, 1) := dk_42 (dk_at dksX1_checksum_1 17 rfl rfl)
theorem dX1_checksum_42 : decode cX1_checksum 42 = .ok (.getfield 37, 3) := dk_180 0 37 (dk_at dksX1_checksum_1 18 rfl rfl)
theorem dX1_checksum_45 : decode cX1_checksum 45 = .ok (.getfield 83, 3) := dk_180 0 83 (dk_at dksX1_checksum_1 21 rfl rfl)
theorem dX1_checksum_48 : decode cX1_checksum 48 = .ok (.iload_n 3, 1) := dk_29 (dk_at dksX1_checksum_2 0 rfl rfl)
theorem dX1_checksum_49 : decode cX1_checksum 49 = .ok (.iaload, 1) := dk_46 (dk_at dksX1_checksum_2 1 rfl rfl)
theorem dX1_checksum_50 : decode cX1_checksum 50 = .ok (.if_icmp .ge 30, 3) := dk_162 0 30 (dk_at dksX1_checksum_2 2 rfl rfl)
theorem dX1_checksum_53 : decode cX1_checksum 53 = .ok (.lload_n 1, 1) := dk_31 (dk_at dksX1_checksum_2 5 rfl rfl)
theorem dX1_checksum_54 : decode cX1_checksum 54 = .ok (.aload_n 0, 1) := dk_42 (dk_at dksX1_checksum_2 6 rfl rfl)
theorem dX1_checksum_55 : decode cX1_checksum 55 = .ok (.getfield 37, 3) := dk_180 0 37 (dk_at dksX1_checksum_2 7 rfl rfl)
theorem dX1_checksum_58 : decode cX1_checksum 58 = .ok (.getfield 159, 3) := dk_180 0 159 (dk_at dksX1_checksum_2 10 rfl rfl)
theorem dX1_checksum_61 : decode cX1_checksum 61 = .ok (.iload_n 3, 1) := dk_29 (dk_at dksX1_checksum_2 13 rfl rfl)
theorem dX1_checksum_62 : decode cX1_checksum 62 = .ok (.aaload, 1) := dk_50 (dk_at dksX1_checksum_2 14 rfl rfl)
theorem dX1_checksum_63 : decode cX1_checksum 63 = .ok (.iload 4, 2) := dk_21 4 (dk_at dksX1_checksum_2 15 rfl rfl)
theorem dX1_checksum_65 : decode cX1_checksum 65 = .ok (.iaload, 1) := dk_46 (dk_at dksX1_checksum_2 17 rfl rfl)
theorem dX1_checksum_66 : decode cX1_checksum 66 = .ok (.invokestatic 163, 3) := dk_184 0 163 (dk_at dksX1_checksum_2 18 rfl rfl)
theorem dX1_checksum_69 : decode cX1_checksum 69 = .ok (.i2l, 1) := dk_133 (dk_at dksX1_checksum_2 21 rfl rfl)
theorem dX1_checksum_70 : decode cX1_checksum 70 = .ok (.invokestatic 273, 3) := dk_184 1 17 (dk_at dksX1_checksum_3 0 rfl rfl)
theorem dX1_checksum_73 : decode cX1_checksum 73 = .ok (.lstore_n 1, 1) := dk_64 (dk_at dksX1_checksum_3 3 rfl rfl)
theorem dX1_checksum_74 : decode cX1_checksum 74 = .ok (.iinc 4 1, 3) := dk_132 4 1 (dk_at dksX1_checksum_3 4 rfl rfl)
theorem dX1_checksum_77 : decode cX1_checksum 77 = .ok (.goto (-38), 3) := dk_167 255 218 (dk_at dksX1_checksum_3 7 rfl rfl)
theorem dX1_checksum_80 : decode cX1_checksum 80 = .ok (.iinc 3 1, 3) := dk_132 3 1 (dk_at dksX1_checksum_3 10 rfl rfl)
theorem dX1_checksum_83 : decode cX1_checksum 83 = .ok (.goto (-61), 3) := dk_167 255 195 (dk_at dksX1_checksum_3 13 rfl rfl)
theorem dX1_checksum_86 : decode cX1_checksum 86 = .ok (.iconst 0, 1) := dk_3 (dk_at dksX1_checksum_3 16 rfl rfl)
theorem dX1_checksum_87 : decode cX1_checksum 87 = .ok (.istore_n 3, 1) := dk_62 (dk_at dksX1_checksum_3 17 rfl rfl)
theorem dX1_checksum_88 : decode cX1_checksum 88 = .ok (.iload_n 3, 1) := dk_29 (dk_at dksX1_checksum_3 18 rfl rfl)
theorem dX1_checksum_89 : decode cX1_checksum 89 = .ok (.bipush 36, 2) := dk_16 36 (dk_at dksX1_checksum_3 19 rfl rfl)
theorem dX1_checksum_91 : decode cX1_checksum 91 = .ok (.if_icmp .ge 38, 3) := dk_162 0 38 (dk_at dksX1_checksum_3 21 rfl rfl)
theorem dX1_checksum_94 : decode cX1_checksum 94 = .ok (.aload_n 0, 1) := dk_42 (dk_at dksX1_checksum_4 0 rfl rfl)
theorem dX1_checksum_95 : decode cX1_checksum 95 = .ok (.getfield 37, 3) := dk_180 0 37 (dk_at dksX1_checksum_4 1 rfl rfl)
theorem dX1_checksum_98 : decode cX1_checksum 98 = .ok (.getfield 58, 3) := dk_180 0 58 (dk_at dksX1_checksum_4 4 rfl rfl)
theorem dX1_checksum_101 : decode cX1_checksum 101 = .ok (.iload_n 3, 1) := dk_29 (dk_at dksX1_checksum_4 7 rfl rfl)
theorem dX1_checksum_102 : decode cX1_checksum 102 = .ok (.invokevirtual 277, 3) := dk_182 1 21 (dk_at dksX1_checksum_4 8 rfl rfl)
theorem dX1_checksum_105 : decode cX1_checksum 105 = .ok (.ifCond .eq 18, 3) := dk_153 0 18 (dk_at dksX1_checksum_4 11 rfl rfl)
theorem dX1_checksum_108 : decode cX1_checksum 108 = .ok (.lload_n 1, 1) := dk_31 (dk_at dksX1_checksum_4 14 rfl rfl)
theorem dX1_checksum_109 : decode cX1_checksum 109 = .ok (.aload_n 0, 1) := dk_42 (dk_at dksX1_checksum_4 15 rfl rfl)
theorem dX1_checksum_110 : decode cX1_checksum 110 = .ok (.getfield 37, 3) := dk_180 0 37 (dk_at dksX1_checksum_4 16 rfl rfl)
theorem dX1_checksum_113 : decode cX1_checksum 113 = .ok (.getfield 166, 3) := dk_180 0 166 (dk_at dksX1_checksum_4 19 rfl rfl)
theorem dX1_checksum_116 : decode cX1_checksum 116 = .ok (.iload_n 3, 1) := dk_29 (dk_at dksX1_checksum_4 22 rfl rfl)
theorem dX1_checksum_117 : decode cX1_checksum 117 = .ok (.iaload, 1) := dk_46 (dk_at dksX1_checksum_4 23 rfl rfl)
theorem dX1_checksum_118 : decode cX1_checksum 118 = .ok (.i2l, 1) := dk_133 (dk_at dksX1_checksum_5 0 rfl rfl)
theorem dX1_checksum_119 : decode cX1_checksum 119 = .ok (.invokestatic 273, 3) := dk_184 1 17 (dk_at dksX1_checksum_5 1 rfl rfl)
theorem dX1_checksum_122 : decode cX1_checksum 122 = .ok (.lstore_n 1, 1) := dk_64 (dk_at dksX1_checksum_5 4 rfl rfl)
theorem dX1_checksum_123 : decode cX1_checksum 123 = .ok (.iinc 3 1, 3) := dk_132 3 1 (dk_at dksX1_checksum_5 5 rfl rfl)
theorem dX1_checksum_126 : decode cX1_checksum 126 = .ok (.goto (-38), 3) := dk_167 255 218 (dk_at dksX1_checksum_5 8 rfl rfl)
theorem dX1_checksum_129 : decode cX1_checksum 129 = .ok (.lload_n 1, 1) := dk_31 (dk_at dksX1_checksum_5 11 rfl rfl)
theorem dX1_checksum_130 : decode cX1_checksum 130 = .ok (.lreturn, 1) := dk_173 (dk_at dksX1_checksum_5 12 rfl rfl)
abbrev cX1_hash : ByteArray := prog_1_method_44_code
def yX1_hash : MethodName := ⟨RX1, "hash", "(JJ)J"⟩
def dkwX1_hash_0 : List UInt8 := [20, 1, 15, 30, 105, 32, 97, 173]
abbrev dktX1_hash_0 : List UInt8 := dkwX1_hash_0 ++ []
theorem dksX1_hash_0 : cX1_hash.data.toList.drop 0 = dktX1_hash_0 := by decide +kernel
theorem dX1_hash_0 : decode cX1_hash 0 = .ok (.ldc2_w 271, 3) := dk_20 1 15 (dk_at dksX1_hash_0 0 rfl rfl)
theorem dX1_hash_3 : decode cX1_hash 3 = .ok (.lload_n 0, 1) := dk_30 (dk_at dksX1_hash_0 3 rfl rfl)
theorem dX1_hash_4 : decode cX1_hash 4 = .ok (.lmul, 1) := dk_105 (dk_at dksX1_hash_0 4 rfl rfl)
theorem dX1_hash_5 : decode cX1_hash 5 = .ok (.lload_n 2, 1) := dk_32 (dk_at dksX1_hash_0 5 rfl rfl)
theorem dX1_hash_6 : decode cX1_hash 6 = .ok (.ladd, 1) := dk_97 (dk_at dksX1_hash_0 6 rfl rfl)
theorem dX1_hash_7 : decode cX1_hash 7 = .ok (.lreturn, 1) := dk_173 (dk_at dksX1_hash_0 7 rfl rfl)
abbrev cX1_shown : ByteArray := prog_1_method_10_code
def yX1_shown : MethodName := ⟨RX1, "shown", "(I)I"⟩
def dkwX1_shown_0 : List UInt8 := [16, 10, 26, 16, 6, 108, 104, 26, 16, 6, 112, 96, 172]
abbrev dktX1_shown_0 : List UInt8 := dkwX1_shown_0 ++ []
theorem dksX1_shown_0 : cX1_shown.data.toList.drop 0 = dktX1_shown_0 := by decide +kernel
theorem dX1_shown_0 : decode cX1_shown 0 = .ok (.bipush 10, 2) := dk_16 10 (dk_at dksX1_shown_0 0 rfl rfl)
theorem dX1_shown_2 : decode cX1_shown 2 = .ok (.iload_n 0, 1) := dk_26 (dk_at dksX1_shown_0 2 rfl rfl)
theorem dX1_shown_3 : decode cX1_shown 3 = .ok (.bipush 6, 2) := dk_16 6 (dk_at dksX1_shown_0 3 rfl rfl)
theorem dX1_shown_5 : decode cX1_shown 5 = .ok (.idiv, 1) := dk_108 (dk_at dksX1_shown_0 5 rfl rfl)
theorem dX1_shown_6 : decode cX1_shown 6 = .ok (.imul, 1) := dk_104 (dk_at dksX1_shown_0 6 rfl rfl)
theorem dX1_shown_7 : decode cX1_shown 7 = .ok (.iload_n 0, 1) := dk_26 (dk_at dksX1_shown_0 7 rfl rfl)
theorem dX1_shown_8 : decode cX1_shown 8 = .ok (.bipush 6, 2) := dk_16 6 (dk_at dksX1_shown_0 8 rfl rfl)
theorem dX1_shown_10 : decode cX1_shown 10 = .ok (.irem, 1) := dk_112 (dk_at dksX1_shown_0 10 rfl rfl)
theorem dX1_shown_11 : decode cX1_shown 11 = .ok (.iadd, 1) := dk_96 (dk_at dksX1_shown_0 11 rfl rfl)
theorem dX1_shown_12 : decode cX1_shown 12 = .ok (.ireturn, 1) := dk_172 (dk_at dksX1_shown_0 12 rfl rfl)
abbrev cX1_load : ByteArray := prog_1_method_14_code
def yX1_load : MethodName := ⟨RX1, "load", "(I)I"⟩
def dkwX1_load_3 : List UInt8 := [180, 0, 137, 181, 0, 41, 44, 180, 0, 140, 172]
abbrev dktX1_load_3 : List UInt8 := dkwX1_load_3 ++ []
def dkwX1_load_2 : List UInt8 := [182, 0, 131, 42, 180, 0, 37, 180, 0, 58, 180, 0, 62, 185, 0, 66, 1, 0, 172, 77, 42, 44]
abbrev dktX1_load_2 : List UInt8 := dkwX1_load_2 ++ dktX1_load_3
def dkwX1_load_1 : List UInt8 := [187, 0, 118, 89, 42, 27, 183, 0, 120, 182, 0, 123, 77, 44, 42, 180, 0, 23, 182, 0, 127, 62, 42, 44]
abbrev dktX1_load_1 : List UInt8 := dkwX1_load_1 ++ dktX1_load_2
def dkwX1_load_0 : List UInt8 := [27, 133, 9, 42, 180, 0, 108, 133, 184, 0, 45, 184, 0, 114, 42, 3, 181, 0, 108, 42, 2, 181, 0, 41]
abbrev dktX1_load_0 : List UInt8 := dkwX1_load_0 ++ dktX1_load_1
theorem dksX1_load_0 : cX1_load.data.toList.drop 0 = dktX1_load_0 := by decide +kernel
theorem dksX1_load_1 : cX1_load.data.toList.drop 24 = dktX1_load_1 := dk_seg dksX1_load_0 24 rfl rfl
theorem dksX1_load_2 : cX1_load.data.toList.drop 48 = dktX1_load_2 := dk_seg dksX1_load_1 24 rfl rfl
theorem dksX1_load_3 : cX1_load.data.toList.drop 70 = dktX1_load_3 := dk_seg dksX1_load_2 22 rfl rfl
theorem dX1_load_0 : decode cX1_load 0 = .ok (.iload_n 1, 1) := dk_27 (dk_at dksX1_load_0 0 rfl rfl)
theorem dX1_load_1 : decode cX1_load 1 = .ok (.i2l, 1) := dk_133 (dk_at dksX1_load_0 1 rfl rfl)
theorem dX1_load_2 : decode cX1_load 2 = .ok (.lconst 0, 1) := dk_9 (dk_at dksX1_load_0 2 rfl rfl)
theorem dX1_load_3 : decode cX1_load 3 = .ok (.aload_n 0, 1) := dk_42 (dk_at dksX1_load_0 3 rfl rfl)
theorem dX1_load_4 : decode cX1_load 4 = .ok (.getfield 108, 3) := dk_180 0 108 (dk_at dksX1_load_0 4 rfl rfl)
theorem dX1_load_7 : decode cX1_load 7 = .ok (.i2l, 1) := dk_133 (dk_at dksX1_load_0 7 rfl rfl)
theorem dX1_load_8 : decode cX1_load 8 = .ok (.invokestatic 45, 3) := dk_184 0 45 (dk_at dksX1_load_0 8 rfl rfl)
theorem dX1_load_11 : decode cX1_load 11 = .ok (.invokestatic 114, 3) := dk_184 0 114 (dk_at dksX1_load_0 11 rfl rfl)
theorem dX1_load_14 : decode cX1_load 14 = .ok (.aload_n 0, 1) := dk_42 (dk_at dksX1_load_0 14 rfl rfl)
theorem dX1_load_15 : decode cX1_load 15 = .ok (.iconst 0, 1) := dk_3 (dk_at dksX1_load_0 15 rfl rfl)
theorem dX1_load_16 : decode cX1_load 16 = .ok (.putfield 108, 3) := dk_181 0 108 (dk_at dksX1_load_0 16 rfl rfl)
theorem dX1_load_19 : decode cX1_load 19 = .ok (.aload_n 0, 1) := dk_42 (dk_at dksX1_load_0 19 rfl rfl)
theorem dX1_load_20 : decode cX1_load 20 = .ok (.iconst (-1), 1) := dk_2 (dk_at dksX1_load_0 20 rfl rfl)
theorem dX1_load_21 : decode cX1_load 21 = .ok (.putfield 41, 3) := dk_181 0 41 (dk_at dksX1_load_0 21 rfl rfl)
theorem dX1_load_24 : decode cX1_load 24 = .ok (.new 118, 3) := dk_187 0 118 (dk_at dksX1_load_1 0 rfl rfl)
theorem dX1_load_27 : decode cX1_load 27 = .ok (.dup, 1) := dk_89 (dk_at dksX1_load_1 3 rfl rfl)
theorem dX1_load_28 : decode cX1_load 28 = .ok (.aload_n 0, 1) := dk_42 (dk_at dksX1_load_1 4 rfl rfl)
theorem dX1_load_29 : decode cX1_load 29 = .ok (.iload_n 1, 1) := dk_27 (dk_at dksX1_load_1 5 rfl rfl)
theorem dX1_load_30 : decode cX1_load 30 = .ok (.invokespecial 120, 3) := dk_183 0 120 (dk_at dksX1_load_1 6 rfl rfl)
theorem dX1_load_33 : decode cX1_load 33 = .ok (.invokevirtual 123, 3) := dk_182 0 123 (dk_at dksX1_load_1 9 rfl rfl)
theorem dX1_load_36 : decode cX1_load 36 = .ok (.astore_n 2, 1) := dk_77 (dk_at dksX1_load_1 12 rfl rfl)
theorem dX1_load_37 : decode cX1_load 37 = .ok (.aload_n 2, 1) := dk_44 (dk_at dksX1_load_1 13 rfl rfl)
theorem dX1_load_38 : decode cX1_load 38 = .ok (.aload_n 0, 1) := dk_42 (dk_at dksX1_load_1 14 rfl rfl)
theorem dX1_load_39 : decode cX1_load 39 = .ok (.getfield 23, 3) := dk_180 0 23 (dk_at dksX1_load_1 15 rfl rfl)
theorem dX1_load_42 : decode cX1_load 42 = .ok (.invokevirtual 127, 3) := dk_182 0 127 (dk_at dksX1_load_1 18 rfl rfl)
theorem dX1_load_45 : decode cX1_load 45 = .ok (.istore_n 3, 1) := dk_62 (dk_at dksX1_load_1 21 rfl rfl)
theorem dX1_load_46 : decode cX1_load 46 = .ok (.aload_n 0, 1) := dk_42 (dk_at dksX1_load_1 22 rfl rfl)
theorem dX1_load_47 : decode cX1_load 47 = .ok (.aload_n 2, 1) := dk_44 (dk_at dksX1_load_1 23 rfl rfl)
theorem dX1_load_48 : decode cX1_load 48 = .ok (.invokevirtual 131, 3) := dk_182 0 131 (dk_at dksX1_load_2 0 rfl rfl)
theorem dX1_load_51 : decode cX1_load 51 = .ok (.aload_n 0, 1) := dk_42 (dk_at dksX1_load_2 3 rfl rfl)
theorem dX1_load_52 : decode cX1_load 52 = .ok (.getfield 37, 3) := dk_180 0 37 (dk_at dksX1_load_2 4 rfl rfl)
theorem dX1_load_55 : decode cX1_load 55 = .ok (.getfield 58, 3) := dk_180 0 58 (dk_at dksX1_load_2 7 rfl rfl)
theorem dX1_load_58 : decode cX1_load 58 = .ok (.getfield 62, 3) := dk_180 0 62 (dk_at dksX1_load_2 10 rfl rfl)
theorem dX1_load_61 : decode cX1_load 61 = .ok (.invokeinterface 66 1, 5) := by decide +kernel
theorem dX1_load_66 : decode cX1_load 66 = .ok (.ireturn, 1) := dk_172 (dk_at dksX1_load_2 18 rfl rfl)
theorem dX1_load_67 : decode cX1_load 67 = .ok (.astore_n 2, 1) := dk_77 (dk_at dksX1_load_2 19 rfl rfl)
theorem dX1_load_68 : decode cX1_load 68 = .ok (.aload_n 0, 1) := dk_42 (dk_at dksX1_load_2 20 rfl rfl)
theorem dX1_load_69 : decode cX1_load 69 = .ok (.aload_n 2, 1) := dk_44 (dk_at dksX1_load_2 21 rfl rfl)
theorem dX1_load_70 : decode cX1_load 70 = .ok (.getfield 137, 3) := dk_180 0 137 (dk_at dksX1_load_3 0 rfl rfl)
theorem dX1_load_73 : decode cX1_load 73 = .ok (.putfield 41, 3) := dk_181 0 41 (dk_at dksX1_load_3 3 rfl rfl)
theorem dX1_load_76 : decode cX1_load 76 = .ok (.aload_n 2, 1) := dk_44 (dk_at dksX1_load_3 6 rfl rfl)
theorem dX1_load_77 : decode cX1_load 77 = .ok (.getfield 140, 3) := dk_180 0 140 (dk_at dksX1_load_3 7 rfl rfl)
theorem dX1_load_80 : decode cX1_load 80 = .ok (.ireturn, 1) := dk_172 (dk_at dksX1_load_3 10 rfl rfl)
abbrev cX1_isBetween : ByteArray := prog_1_method_1_code
def yX1_isBetween : MethodName := ⟨RX1, "isBetween", "(JJJ)Z"⟩
def dkwX1_isBetween_0 : List UInt8 := [30, 32, 148, 155, 0, 14, 30, 22, 4, 148, 157, 0, 7, 4, 167, 0, 4, 3, 172]
abbrev dktX1_isBetween_0 : List UInt8 := dkwX1_isBetween_0 ++ []
theorem dksX1_isBetween_0 : cX1_isBetween.data.toList.drop 0 = dktX1_isBetween_0 := by decide +kernel
theorem dX1_isBetween_0 : decode cX1_isBetween 0 = .ok (.lload_n 0, 1) := dk_30 (dk_at dksX1_isBetween_0 0 rfl rfl)
theorem dX1_isBetween_1 : decode cX1_isBetween 1 = .ok (.lload_n 2, 1) := dk_32 (dk_at dksX1_isBetween_0 1 rfl rfl)
theorem dX1_isBetween_2 : decode cX1_isBetween 2 = .ok (.lcmp, 1) := dk_148 (dk_at dksX1_isBetween_0 2 rfl rfl)
theorem dX1_isBetween_3 : decode cX1_isBetween 3 = .ok (.ifCond .lt 14, 3) := dk_155 0 14 (dk_at dksX1_isBetween_0 3 rfl rfl)
theorem dX1_isBetween_6 : decode cX1_isBetween 6 = .ok (.lload_n 0, 1) := dk_30 (dk_at dksX1_isBetween_0 6 rfl rfl)
theorem dX1_isBetween_7 : decode cX1_isBetween 7 = .ok (.lload 4, 2) := dk_22 4 (dk_at dksX1_isBetween_0 7 rfl rfl)
theorem dX1_isBetween_9 : decode cX1_isBetween 9 = .ok (.lcmp, 1) := dk_148 (dk_at dksX1_isBetween_0 9 rfl rfl)
theorem dX1_isBetween_10 : decode cX1_isBetween 10 = .ok (.ifCond .gt 7, 3) := dk_157 0 7 (dk_at dksX1_isBetween_0 10 rfl rfl)
theorem dX1_isBetween_13 : decode cX1_isBetween 13 = .ok (.iconst 1, 1) := dk_4 (dk_at dksX1_isBetween_0 13 rfl rfl)
theorem dX1_isBetween_14 : decode cX1_isBetween 14 = .ok (.goto 4, 3) := dk_167 0 4 (dk_at dksX1_isBetween_0 14 rfl rfl)
theorem dX1_isBetween_17 : decode cX1_isBetween 17 = .ok (.iconst 0, 1) := dk_3 (dk_at dksX1_isBetween_0 17 rfl rfl)
theorem dX1_isBetween_18 : decode cX1_isBetween 18 = .ok (.ireturn, 1) := dk_172 (dk_at dksX1_isBetween_0 18 rfl rfl)
abbrev cX1_requireArgument : ByteArray := prog_1_method_4_code
def yX1_requireArgument : MethodName := ⟨RX1, "requireArgument", "(Z)V"⟩
def dkwX1_requireArgument_0 : List UInt8 := [26, 154, 0, 11, 187, 0, 52, 89, 183, 0, 54, 191, 177]
abbrev dktX1_requireArgument_0 : List UInt8 := dkwX1_requireArgument_0 ++ []
theorem dksX1_requireArgument_0 : cX1_requireArgument.data.toList.drop 0 = dktX1_requireArgument_0 := by decide +kernel
theorem dX1_requireArgument_0 : decode cX1_requireArgument 0 = .ok (.iload_n 0, 1) := dk_26 (dk_at dksX1_requireArgument_0 0 rfl rfl)
theorem dX1_requireArgument_1 : decode cX1_requireArgument 1 = .ok (.ifCond .ne 11, 3) := dk_154 0 11 (dk_at dksX1_requireArgument_0 1 rfl rfl)
theorem dX1_requireArgument_4 : decode cX1_requireArgument 4 = .ok (.new 52, 3) := dk_187 0 52 (dk_at dksX1_requireArgument_0 4 rfl rfl)
theorem dX1_requireArgument_7 : decode cX1_requireArgument 7 = .ok (.dup, 1) := dk_89 (dk_at dksX1_requireArgument_0 7 rfl rfl)
theorem dX1_requireArgument_8 : decode cX1_requireArgument 8 = .ok (.invokespecial 54, 3) := dk_183 0 54 (dk_at dksX1_requireArgument_0 8 rfl rfl)
theorem dX1_requireArgument_11 : decode cX1_requireArgument 11 = .ok (.athrow, 1) := dk_191 (dk_at dksX1_requireArgument_0 11 rfl rfl)
theorem dX1_requireArgument_12 : decode cX1_requireArgument 12 = .ok (.return_, 1) := dk_177 (dk_at dksX1_requireArgument_0 12 rfl rfl)
abbrev cX1_operationCount : ByteArray := prog_1_method_18_code
def yX1_operationCount : MethodName := ⟨RX1, "operationCount", "(I)I"⟩
def dkwX1_operationCount_1 : List UInt8 := [180, 0, 96, 172]
abbrev dktX1_operationCount_1 : List UInt8 := dkwX1_operationCount_1 ++ []
def dkwX1_operationCount_0 : List UInt8 := [42, 27, 182, 0, 87, 42, 180, 0, 37, 180, 0, 58, 180, 0, 62, 27, 185, 0, 90, 2, 0, 192, 0, 94]
abbrev dktX1_operationCount_0 : List UInt8 := dkwX1_operationCount_0 ++ dktX1_operationCount_1
theorem dksX1_operationCount_0 : cX1_operationCount.data.toList.drop 0 = dktX1_operationCount_0 := by decide +kernel
theorem dksX1_operationCount_1 : cX1_operationCount.data.toList.drop 24 = dktX1_operationCount_1 := dk_seg dksX1_operationCount_0 24 rfl rfl
theorem dX1_operationCount_0 : decode cX1_operationCount 0 = .ok (.aload_n 0, 1) := dk_42 (dk_at dksX1_operationCount_0 0 rfl rfl)
theorem dX1_operationCount_1 : decode cX1_operationCount 1 = .ok (.iload_n 1, 1) := dk_27 (dk_at dksX1_operationCount_0 1 rfl rfl)
theorem dX1_operationCount_2 : decode cX1_operationCount 2 = .ok (.invokevirtual 87, 3) := dk_182 0 87 (dk_at dksX1_operationCount_0 2 rfl rfl)
theorem dX1_operationCount_5 : decode cX1_operationCount 5 = .ok (.aload_n 0, 1) := dk_42 (dk_at dksX1_operationCount_0 5 rfl rfl)
theorem dX1_operationCount_6 : decode cX1_operationCount 6 = .ok (.getfield 37, 3) := dk_180 0 37 (dk_at dksX1_operationCount_0 6 rfl rfl)
theorem dX1_operationCount_9 : decode cX1_operationCount 9 = .ok (.getfield 58, 3) := dk_180 0 58 (dk_at dksX1_operationCount_0 9 rfl rfl)
theorem dX1_operationCount_12 : decode cX1_operationCount 12 = .ok (.getfield 62, 3) := dk_180 0 62 (dk_at dksX1_operationCount_0 12 rfl rfl)
theorem dX1_operationCount_15 : decode cX1_operationCount 15 = .ok (.iload_n 1, 1) := dk_27 (dk_at dksX1_operationCount_0 15 rfl rfl)
theorem dX1_operationCount_16 : decode cX1_operationCount 16 = .ok (.invokeinterface 90 2, 5) := by decide +kernel
theorem dX1_operationCount_21 : decode cX1_operationCount 21 = .ok (.checkcast 94, 3) := dk_192 0 94 (dk_at dksX1_operationCount_0 21 rfl rfl)
theorem dX1_operationCount_24 : decode cX1_operationCount 24 = .ok (.getfield 96, 3) := dk_180 0 96 (dk_at dksX1_operationCount_1 0 rfl rfl)
theorem dX1_operationCount_27 : decode cX1_operationCount 27 = .ok (.ireturn, 1) := dk_172 (dk_at dksX1_operationCount_1 3 rfl rfl)
abbrev cX1_requireJob : ByteArray := prog_1_method_6_code
def yX1_requireJob : MethodName := ⟨RX1, "requireJob", "(I)V"⟩
def dkwX1_requireJob_0 : List UInt8 := [27, 42, 180, 0, 37, 180, 0, 58, 180, 0, 62, 185, 0, 66, 1, 0, 184, 0, 72, 177]
abbrev dktX1_requireJob_0 : List UInt8 := dkwX1_requireJob_0 ++ []
theorem dksX1_requireJob_0 : cX1_requireJob.data.toList.drop 0 = dktX1_requireJob_0 := by decide +kernel
theorem dX1_requireJob_0 : decode cX1_requireJob 0 = .ok (.iload_n 1, 1) := dk_27 (dk_at dksX1_requireJob_0 0 rfl rfl)
theorem dX1_requireJob_1 : decode cX1_requireJob 1 = .ok (.aload_n 0, 1) := dk_42 (dk_at dksX1_requireJob_0 1 rfl rfl)
theorem dX1_requireJob_2 : decode cX1_requireJob 2 = .ok (.getfield 37, 3) := dk_180 0 37 (dk_at dksX1_requireJob_0 2 rfl rfl)
theorem dX1_requireJob_5 : decode cX1_requireJob 5 = .ok (.getfield 58, 3) := dk_180 0 58 (dk_at dksX1_requireJob_0 5 rfl rfl)
theorem dX1_requireJob_8 : decode cX1_requireJob 8 = .ok (.getfield 62, 3) := dk_180 0 62 (dk_at dksX1_requireJob_0 8 rfl rfl)
theorem dX1_requireJob_11 : decode cX1_requireJob 11 = .ok (.invokeinterface 66 1, 5) := by decide +kernel
theorem dX1_requireJob_16 : decode cX1_requireJob 16 = .ok (.invokestatic 72, 3) := dk_184 0 72 (dk_at dksX1_requireJob_0 16 rfl rfl)
theorem dX1_requireJob_19 : decode cX1_requireJob 19 = .ok (.return_, 1) := dk_177 (dk_at dksX1_requireJob_0 19 rfl rfl)
abbrev cX1_requireIndex : ByteArray := prog_1_method_3_code
def yX1_requireIndex : MethodName := ⟨RX1, "requireIndex", "(II)V"⟩
def dkwX1_requireIndex_0 : List UInt8 := [26, 133, 9, 27, 4, 100, 133, 184, 0, 45, 154, 0, 11, 187, 0, 49, 89, 183, 0, 51, 191, 177]
abbrev dktX1_requireIndex_0 : List UInt8 := dkwX1_requireIndex_0 ++ []
theorem dksX1_requireIndex_0 : cX1_requireIndex.data.toList.drop 0 = dktX1_requireIndex_0 := by decide +kernel
theorem dX1_requireIndex_0 : decode cX1_requireIndex 0 = .ok (.iload_n 0, 1) := dk_26 (dk_at dksX1_requireIndex_0 0 rfl rfl)
theorem dX1_requireIndex_1 : decode cX1_requireIndex 1 = .ok (.i2l, 1) := dk_133 (dk_at dksX1_requireIndex_0 1 rfl rfl)
theorem dX1_requireIndex_2 : decode cX1_requireIndex 2 = .ok (.lconst 0, 1) := dk_9 (dk_at dksX1_requireIndex_0 2 rfl rfl)
theorem dX1_requireIndex_3 : decode cX1_requireIndex 3 = .ok (.iload_n 1, 1) := dk_27 (dk_at dksX1_requireIndex_0 3 rfl rfl)
theorem dX1_requireIndex_4 : decode cX1_requireIndex 4 = .ok (.iconst 1, 1) := dk_4 (dk_at dksX1_requireIndex_0 4 rfl rfl)
theorem dX1_requireIndex_5 : decode cX1_requireIndex 5 = .ok (.isub, 1) := dk_100 (dk_at dksX1_requireIndex_0 5 rfl rfl)
theorem dX1_requireIndex_6 : decode cX1_requireIndex 6 = .ok (.i2l, 1) := dk_133 (dk_at dksX1_requireIndex_0 6 rfl rfl)
theorem dX1_requireIndex_7 : decode cX1_requireIndex 7 = .ok (.invokestatic 45, 3) := dk_184 0 45 (dk_at dksX1_requireIndex_0 7 rfl rfl)
theorem dX1_requireIndex_10 : decode cX1_requireIndex 10 = .ok (.ifCond .ne 11, 3) := dk_154 0 11 (dk_at dksX1_requireIndex_0 10 rfl rfl)
theorem dX1_requireIndex_13 : decode cX1_requireIndex 13 = .ok (.new 49, 3) := dk_187 0 49 (dk_at dksX1_requireIndex_0 13 rfl rfl)
theorem dX1_requireIndex_16 : decode cX1_requireIndex 16 = .ok (.dup, 1) := dk_89 (dk_at dksX1_requireIndex_0 16 rfl rfl)
theorem dX1_requireIndex_17 : decode cX1_requireIndex 17 = .ok (.invokespecial 51, 3) := dk_183 0 51 (dk_at dksX1_requireIndex_0 17 rfl rfl)
theorem dX1_requireIndex_20 : decode cX1_requireIndex 20 = .ok (.athrow, 1) := dk_191 (dk_at dksX1_requireIndex_0 20 rfl rfl)
theorem dX1_requireIndex_21 : decode cX1_requireIndex 21 = .ok (.return_, 1) := dk_177 (dk_at dksX1_requireIndex_0 21 rfl rfl)
abbrev cX1_operation : ByteArray := prog_1_method_19_code
def yX1_operation : MethodName := ⟨RX1, "operation", "(III)I"⟩
def dkwX1_operation_2 : List UInt8 := [180, 0, 37, 180, 0, 152, 21, 4, 46, 167, 0, 12, 42, 180, 0, 37, 21, 4, 182, 0, 155, 172]
abbrev dktX1_operation_2 : List UInt8 := dkwX1_operation_2 ++ []
def dkwX1_operation_1 : List UInt8 := [42, 180, 0, 37, 180, 0, 58, 180, 0, 149, 21, 4, 46, 167, 0, 30, 29, 4, 160, 0, 16, 42]
abbrev dktX1_operation_1 : List UInt8 := dkwX1_operation_1 ++ dktX1_operation_2
def dkwX1_operation_0 : List UInt8 := [42, 27, 28, 182, 0, 143, 54, 4, 29, 133, 9, 20, 0, 147, 184, 0, 45, 184, 0, 114, 29, 154, 0, 19]
abbrev dktX1_operation_0 : List UInt8 := dkwX1_operation_0 ++ dktX1_operation_1
theorem dksX1_operation_0 : cX1_operation.data.toList.drop 0 = dktX1_operation_0 := by decide +kernel
theorem dksX1_operation_1 : cX1_operation.data.toList.drop 24 = dktX1_operation_1 := dk_seg dksX1_operation_0 24 rfl rfl
theorem dksX1_operation_2 : cX1_operation.data.toList.drop 46 = dktX1_operation_2 := dk_seg dksX1_operation_1 22 rfl rfl
theorem dX1_operation_0 : decode cX1_operation 0 = .ok (.aload_n 0, 1) := dk_42 (dk_at dksX1_operation_0 0 rfl rfl)
theorem dX1_operation_1 : decode cX1_operation 1 = .ok (.iload_n 1, 1) := dk_27 (dk_at dksX1_operation_0 1 rfl rfl)
theorem dX1_operation_2 : decode cX1_operation 2 = .ok (.iload_n 2, 1) := dk_28 (dk_at dksX1_operation_0 2 rfl rfl)
theorem dX1_operation_3 : decode cX1_operation 3 = .ok (.invokevirtual 143, 3) := dk_182 0 143 (dk_at dksX1_operation_0 3 rfl rfl)
theorem dX1_operation_6 : decode cX1_operation 6 = .ok (.istore 4, 2) := dk_54 4 (dk_at dksX1_operation_0 6 rfl rfl)
theorem dX1_operation_8 : decode cX1_operation 8 = .ok (.iload_n 3, 1) := dk_29 (dk_at dksX1_operation_0 8 rfl rfl)
theorem dX1_operation_9 : decode cX1_operation 9 = .ok (.i2l, 1) := dk_133 (dk_at dksX1_operation_0 9 rfl rfl)
theorem dX1_operation_10 : decode cX1_operation 10 = .ok (.lconst 0, 1) := dk_9 (dk_at dksX1_operation_0 10 rfl rfl)
theorem dX1_operation_11 : decode cX1_operation 11 = .ok (.ldc2_w 147, 3) := dk_20 0 147 (dk_at dksX1_operation_0 11 rfl rfl)
theorem dX1_operation_14 : decode cX1_operation 14 = .ok (.invokestatic 45, 3) := dk_184 0 45 (dk_at dksX1_operation_0 14 rfl rfl)
theorem dX1_operation_17 : decode cX1_operation 17 = .ok (.invokestatic 114, 3) := dk_184 0 114 (dk_at dksX1_operation_0 17 rfl rfl)
theorem dX1_operation_20 : decode cX1_operation 20 = .ok (.iload_n 3, 1) := dk_29 (dk_at dksX1_operation_0 20 rfl rfl)
theorem dX1_operation_21 : decode cX1_operation 21 = .ok (.ifCond .ne 19, 3) := dk_154 0 19 (dk_at dksX1_operation_0 21 rfl rfl)
theorem dX1_operation_24 : decode cX1_operation 24 = .ok (.aload_n 0, 1) := dk_42 (dk_at dksX1_operation_1 0 rfl rfl)
theorem dX1_operation_25 : decode cX1_operation 25 = .ok (.getfield 37, 3) := dk_180 0 37 (dk_at dksX1_operation_1 1 rfl rfl)
theorem dX1_operation_28 : decode cX1_operation 28 = .ok (.getfield 58, 3) := dk_180 0 58 (dk_at dksX1_operation_1 4 rfl rfl)
theorem dX1_operation_31 : decode cX1_operation 31 = .ok (.getfield 149, 3) := dk_180 0 149 (dk_at dksX1_operation_1 7 rfl rfl)
theorem dX1_operation_34 : decode cX1_operation 34 = .ok (.iload 4, 2) := dk_21 4 (dk_at dksX1_operation_1 10 rfl rfl)
theorem dX1_operation_36 : decode cX1_operation 36 = .ok (.iaload, 1) := dk_46 (dk_at dksX1_operation_1 12 rfl rfl)
theorem dX1_operation_37 : decode cX1_operation 37 = .ok (.goto 30, 3) := dk_167 0 30 (dk_at dksX1_operation_1 13 rfl rfl)
theorem dX1_operation_40 : decode cX1_operation 40 = .ok (.iload_n 3, 1) := dk_29 (dk_at dksX1_operation_1 16 rfl rfl)
theorem dX1_operation_41 : decode cX1_operation 41 = .ok (.iconst 1, 1) := dk_4 (dk_at dksX1_operation_1 17 rfl rfl)
theorem dX1_operation_42 : decode cX1_operation 42 = .ok (.if_icmp .ne 16, 3) := dk_160 0 16 (dk_at dksX1_operation_1 18 rfl rfl)
theorem dX1_operation_45 : decode cX1_operation 45 = .ok (.aload_n 0, 1) := dk_42 (dk_at dksX1_operation_1 21 rfl rfl)
theorem dX1_operation_46 : decode cX1_operation 46 = .ok (.getfield 37, 3) := dk_180 0 37 (dk_at dksX1_operation_2 0 rfl rfl)
theorem dX1_operation_49 : decode cX1_operation 49 = .ok (.getfield 152, 3) := dk_180 0 152 (dk_at dksX1_operation_2 3 rfl rfl)
theorem dX1_operation_52 : decode cX1_operation 52 = .ok (.iload 4, 2) := dk_21 4 (dk_at dksX1_operation_2 6 rfl rfl)
theorem dX1_operation_54 : decode cX1_operation 54 = .ok (.iaload, 1) := dk_46 (dk_at dksX1_operation_2 8 rfl rfl)
theorem dX1_operation_55 : decode cX1_operation 55 = .ok (.goto 12, 3) := dk_167 0 12 (dk_at dksX1_operation_2 9 rfl rfl)
theorem dX1_operation_58 : decode cX1_operation 58 = .ok (.aload_n 0, 1) := dk_42 (dk_at dksX1_operation_2 12 rfl rfl)
theorem dX1_operation_59 : decode cX1_operation 59 = .ok (.getfield 37, 3) := dk_180 0 37 (dk_at dksX1_operation_2 13 rfl rfl)
theorem dX1_operation_62 : decode cX1_operation 62 = .ok (.iload 4, 2) := dk_21 4 (dk_at dksX1_operation_2 16 rfl rfl)
theorem dX1_operation_64 : decode cX1_operation 64 = .ok (.invokevirtual 155, 3) := dk_182 0 155 (dk_at dksX1_operation_2 18 rfl rfl)
theorem dX1_operation_67 : decode cX1_operation 67 = .ok (.ireturn, 1) := dk_172 (dk_at dksX1_operation_2 21 rfl rfl)
abbrev cX1_numberOf : ByteArray := prog_1_method_9_code
def yX1_numberOf : MethodName := ⟨RX1, "numberOf", "(II)I"⟩
def dkwX1_numberOf_1 : List UInt8 := [192, 0, 94, 180, 0, 96, 184, 0, 72, 16, 6, 27, 104, 28, 96, 172]
abbrev dktX1_numberOf_1 : List UInt8 := dkwX1_numberOf_1 ++ []
def dkwX1_numberOf_0 : List UInt8 := [42, 27, 182, 0, 87, 28, 42, 180, 0, 37, 180, 0, 58, 180, 0, 62, 27, 185, 0, 90, 2, 0]
abbrev dktX1_numberOf_0 : List UInt8 := dkwX1_numberOf_0 ++ dktX1_numberOf_1
theorem dksX1_numberOf_0 : cX1_numberOf.data.toList.drop 0 = dktX1_numberOf_0 := by decide +kernel
theorem dksX1_numberOf_1 : cX1_numberOf.data.toList.drop 22 = dktX1_numberOf_1 := dk_seg dksX1_numberOf_0 22 rfl rfl
theorem dX1_numberOf_0 : decode cX1_numberOf 0 = .ok (.aload_n 0, 1) := dk_42 (dk_at dksX1_numberOf_0 0 rfl rfl)
theorem dX1_numberOf_1 : decode cX1_numberOf 1 = .ok (.iload_n 1, 1) := dk_27 (dk_at dksX1_numberOf_0 1 rfl rfl)
theorem dX1_numberOf_2 : decode cX1_numberOf 2 = .ok (.invokevirtual 87, 3) := dk_182 0 87 (dk_at dksX1_numberOf_0 2 rfl rfl)
theorem dX1_numberOf_5 : decode cX1_numberOf 5 = .ok (.iload_n 2, 1) := dk_28 (dk_at dksX1_numberOf_0 5 rfl rfl)
theorem dX1_numberOf_6 : decode cX1_numberOf 6 = .ok (.aload_n 0, 1) := dk_42 (dk_at dksX1_numberOf_0 6 rfl rfl)
theorem dX1_numberOf_7 : decode cX1_numberOf 7 = .ok (.getfield 37, 3) := dk_180 0 37 (dk_at dksX1_numberOf_0 7 rfl rfl)
theorem dX1_numberOf_10 : decode cX1_numberOf 10 = .ok (.getfield 58, 3) := dk_180 0 58 (dk_at dksX1_numberOf_0 10 rfl rfl)
theorem dX1_numberOf_13 : decode cX1_numberOf 13 = .ok (.getfield 62, 3) := dk_180 0 62 (dk_at dksX1_numberOf_0 13 rfl rfl)
theorem dX1_numberOf_16 : decode cX1_numberOf 16 = .ok (.iload_n 1, 1) := dk_27 (dk_at dksX1_numberOf_0 16 rfl rfl)
theorem dX1_numberOf_17 : decode cX1_numberOf 17 = .ok (.invokeinterface 90 2, 5) := by decide +kernel
theorem dX1_numberOf_22 : decode cX1_numberOf 22 = .ok (.checkcast 94, 3) := dk_192 0 94 (dk_at dksX1_numberOf_1 0 rfl rfl)
theorem dX1_numberOf_25 : decode cX1_numberOf 25 = .ok (.getfield 96, 3) := dk_180 0 96 (dk_at dksX1_numberOf_1 3 rfl rfl)
theorem dX1_numberOf_28 : decode cX1_numberOf 28 = .ok (.invokestatic 72, 3) := dk_184 0 72 (dk_at dksX1_numberOf_1 6 rfl rfl)
theorem dX1_numberOf_31 : decode cX1_numberOf 31 = .ok (.bipush 6, 2) := dk_16 6 (dk_at dksX1_numberOf_1 9 rfl rfl)
theorem dX1_numberOf_33 : decode cX1_numberOf 33 = .ok (.iload_n 1, 1) := dk_27 (dk_at dksX1_numberOf_1 11 rfl rfl)
theorem dX1_numberOf_34 : decode cX1_numberOf 34 = .ok (.imul, 1) := dk_104 (dk_at dksX1_numberOf_1 12 rfl rfl)
theorem dX1_numberOf_35 : decode cX1_numberOf 35 = .ok (.iload_n 2, 1) := dk_28 (dk_at dksX1_numberOf_1 13 rfl rfl)
theorem dX1_numberOf_36 : decode cX1_numberOf 36 = .ok (.iadd, 1) := dk_96 (dk_at dksX1_numberOf_1 14 rfl rfl)
theorem dX1_numberOf_37 : decode cX1_numberOf 37 = .ok (.ireturn, 1) := dk_172 (dk_at dksX1_numberOf_1 15 rfl rfl)
abbrev cX1_orderLength : ByteArray := prog_1_method_20_code
def yX1_orderLength : MethodName := ⟨RX1, "orderLength", "(I)I"⟩
def dkwX1_orderLength_0 : List UInt8 := [42, 27, 182, 0, 79, 42, 180, 0, 37, 180, 0, 83, 27, 46, 172]
abbrev dktX1_orderLength_0 : List UInt8 := dkwX1_orderLength_0 ++ []
theorem dksX1_orderLength_0 : cX1_orderLength.data.toList.drop 0 = dktX1_orderLength_0 := by decide +kernel
theorem dX1_orderLength_0 : decode cX1_orderLength 0 = .ok (.aload_n 0, 1) := dk_42 (dk_at dksX1_orderLength_0 0 rfl rfl)
theorem dX1_orderLength_1 : decode cX1_orderLength 1 = .ok (.iload_n 1, 1) := dk_27 (dk_at dksX1_orderLength_0 1 rfl rfl)
theorem dX1_orderLength_2 : decode cX1_orderLength 2 = .ok (.invokevirtual 79, 3) := dk_182 0 79 (dk_at dksX1_orderLength_0 2 rfl rfl)
theorem dX1_orderLength_5 : decode cX1_orderLength 5 = .ok (.aload_n 0, 1) := dk_42 (dk_at dksX1_orderLength_0 5 rfl rfl)
theorem dX1_orderLength_6 : decode cX1_orderLength 6 = .ok (.getfield 37, 3) := dk_180 0 37 (dk_at dksX1_orderLength_0 6 rfl rfl)
theorem dX1_orderLength_9 : decode cX1_orderLength 9 = .ok (.getfield 83, 3) := dk_180 0 83 (dk_at dksX1_orderLength_0 9 rfl rfl)
theorem dX1_orderLength_12 : decode cX1_orderLength 12 = .ok (.iload_n 1, 1) := dk_27 (dk_at dksX1_orderLength_0 12 rfl rfl)
theorem dX1_orderLength_13 : decode cX1_orderLength 13 = .ok (.iaload, 1) := dk_46 (dk_at dksX1_orderLength_0 13 rfl rfl)
theorem dX1_orderLength_14 : decode cX1_orderLength 14 = .ok (.ireturn, 1) := dk_172 (dk_at dksX1_orderLength_0 14 rfl rfl)
abbrev cX1_requireMachine : ByteArray := prog_1_method_7_code
def yX1_requireMachine : MethodName := ⟨RX1, "requireMachine", "(I)V"⟩
def dkwX1_requireMachine_0 : List UInt8 := [27, 42, 180, 0, 37, 180, 0, 58, 180, 0, 76, 184, 0, 72, 177]
abbrev dktX1_requireMachine_0 : List UInt8 := dkwX1_requireMachine_0 ++ []
theorem dksX1_requireMachine_0 : cX1_requireMachine.data.toList.drop 0 = dktX1_requireMachine_0 := by decide +kernel
theorem dX1_requireMachine_0 : decode cX1_requireMachine 0 = .ok (.iload_n 1, 1) := dk_27 (dk_at dksX1_requireMachine_0 0 rfl rfl)
theorem dX1_requireMachine_1 : decode cX1_requireMachine 1 = .ok (.aload_n 0, 1) := dk_42 (dk_at dksX1_requireMachine_0 1 rfl rfl)
theorem dX1_requireMachine_2 : decode cX1_requireMachine 2 = .ok (.getfield 37, 3) := dk_180 0 37 (dk_at dksX1_requireMachine_0 2 rfl rfl)
theorem dX1_requireMachine_5 : decode cX1_requireMachine 5 = .ok (.getfield 58, 3) := dk_180 0 58 (dk_at dksX1_requireMachine_0 5 rfl rfl)
theorem dX1_requireMachine_8 : decode cX1_requireMachine 8 = .ok (.getfield 76, 3) := dk_180 0 76 (dk_at dksX1_requireMachine_0 8 rfl rfl)
theorem dX1_requireMachine_11 : decode cX1_requireMachine 11 = .ok (.invokestatic 72, 3) := dk_184 0 72 (dk_at dksX1_requireMachine_0 11 rfl rfl)
theorem dX1_requireMachine_14 : decode cX1_requireMachine 14 = .ok (.return_, 1) := dk_177 (dk_at dksX1_requireMachine_0 14 rfl rfl)
abbrev cX1_orderAt : ByteArray := prog_1_method_21_code
def yX1_orderAt : MethodName := ⟨RX1, "orderAt", "(II)I"⟩
def dkwX1_orderAt_1 : List UInt8 := [180, 0, 159, 27, 50, 28, 46, 184, 0, 163, 172]
abbrev dktX1_orderAt_1 : List UInt8 := dkwX1_orderAt_1 ++ []
def dkwX1_orderAt_0 : List UInt8 := [42, 27, 182, 0, 79, 28, 42, 180, 0, 37, 180, 0, 83, 27, 46, 184, 0, 72, 42, 180, 0, 37]
abbrev dktX1_orderAt_0 : List UInt8 := dkwX1_orderAt_0 ++ dktX1_orderAt_1
theorem dksX1_orderAt_0 : cX1_orderAt.data.toList.drop 0 = dktX1_orderAt_0 := by decide +kernel
theorem dksX1_orderAt_1 : cX1_orderAt.data.toList.drop 22 = dktX1_orderAt_1 := dk_seg dksX1_orderAt_0 22 rfl rfl
theorem dX1_orderAt_0 : decode cX1_orderAt 0 = .ok (.aload_n 0, 1) := dk_42 (dk_at dksX1_orderAt_0 0 rfl rfl)
theorem dX1_orderAt_1 : decode cX1_orderAt 1 = .ok (.iload_n 1, 1) := dk_27 (dk_at dksX1_orderAt_0 1 rfl rfl)
theorem dX1_orderAt_2 : decode cX1_orderAt 2 = .ok (.invokevirtual 79, 3) := dk_182 0 79 (dk_at dksX1_orderAt_0 2 rfl rfl)
theorem dX1_orderAt_5 : decode cX1_orderAt 5 = .ok (.iload_n 2, 1) := dk_28 (dk_at dksX1_orderAt_0 5 rfl rfl)
theorem dX1_orderAt_6 : decode cX1_orderAt 6 = .ok (.aload_n 0, 1) := dk_42 (dk_at dksX1_orderAt_0 6 rfl rfl)
theorem dX1_orderAt_7 : decode cX1_orderAt 7 = .ok (.getfield 37, 3) := dk_180 0 37 (dk_at dksX1_orderAt_0 7 rfl rfl)
theorem dX1_orderAt_10 : decode cX1_orderAt 10 = .ok (.getfield 83, 3) := dk_180 0 83 (dk_at dksX1_orderAt_0 10 rfl rfl)
theorem dX1_orderAt_13 : decode cX1_orderAt 13 = .ok (.iload_n 1, 1) := dk_27 (dk_at dksX1_orderAt_0 13 rfl rfl)
theorem dX1_orderAt_14 : decode cX1_orderAt 14 = .ok (.iaload, 1) := dk_46 (dk_at dksX1_orderAt_0 14 rfl rfl)
theorem dX1_orderAt_15 : decode cX1_orderAt 15 = .ok (.invokestatic 72, 3) := dk_184 0 72 (dk_at dksX1_orderAt_0 15 rfl rfl)
theorem dX1_orderAt_18 : decode cX1_orderAt 18 = .ok (.aload_n 0, 1) := dk_42 (dk_at dksX1_orderAt_0 18 rfl rfl)
theorem dX1_orderAt_19 : decode cX1_orderAt 19 = .ok (.getfield 37, 3) := dk_180 0 37 (dk_at dksX1_orderAt_0 19 rfl rfl)
theorem dX1_orderAt_22 : decode cX1_orderAt 22 = .ok (.getfield 159, 3) := dk_180 0 159 (dk_at dksX1_orderAt_1 0 rfl rfl)
theorem dX1_orderAt_25 : decode cX1_orderAt 25 = .ok (.iload_n 1, 1) := dk_27 (dk_at dksX1_orderAt_1 3 rfl rfl)
theorem dX1_orderAt_26 : decode cX1_orderAt 26 = .ok (.aaload, 1) := dk_50 (dk_at dksX1_orderAt_1 4 rfl rfl)
theorem dX1_orderAt_27 : decode cX1_orderAt 27 = .ok (.iload_n 2, 1) := dk_28 (dk_at dksX1_orderAt_1 5 rfl rfl)
theorem dX1_orderAt_28 : decode cX1_orderAt 28 = .ok (.iaload, 1) := dk_46 (dk_at dksX1_orderAt_1 6 rfl rfl)
theorem dX1_orderAt_29 : decode cX1_orderAt 29 = .ok (.invokestatic 163, 3) := dk_184 0 163 (dk_at dksX1_orderAt_1 7 rfl rfl)
theorem dX1_orderAt_32 : decode cX1_orderAt 32 = .ok (.ireturn, 1) := dk_172 (dk_at dksX1_orderAt_1 10 rfl rfl)
abbrev cX1_start : ByteArray := prog_1_method_22_code
def yX1_start : MethodName := ⟨RX1, "start", "(II)I"⟩
def dkwX1_start_0 : List UInt8 := [42, 180, 0, 37, 180, 0, 166, 42, 27, 28, 182, 0, 143, 46, 172]
abbrev dktX1_start_0 : List UInt8 := dkwX1_start_0 ++ []
theorem dksX1_start_0 : cX1_start.data.toList.drop 0 = dktX1_start_0 := by decide +kernel
theorem dX1_start_0 : decode cX1_start 0 = .ok (.aload_n 0, 1) := dk_42 (dk_at dksX1_start_0 0 rfl rfl)
theorem dX1_start_1 : decode cX1_start 1 = .ok (.getfield 37, 3) := dk_180 0 37 (dk_at dksX1_start_0 1 rfl rfl)
theorem dX1_start_4 : decode cX1_start 4 = .ok (.getfield 166, 3) := dk_180 0 166 (dk_at dksX1_start_0 4 rfl rfl)
theorem dX1_start_7 : decode cX1_start 7 = .ok (.aload_n 0, 1) := dk_42 (dk_at dksX1_start_0 7 rfl rfl)
theorem dX1_start_8 : decode cX1_start 8 = .ok (.iload_n 1, 1) := dk_27 (dk_at dksX1_start_0 8 rfl rfl)
theorem dX1_start_9 : decode cX1_start 9 = .ok (.iload_n 2, 1) := dk_28 (dk_at dksX1_start_0 9 rfl rfl)
theorem dX1_start_10 : decode cX1_start 10 = .ok (.invokevirtual 143, 3) := dk_182 0 143 (dk_at dksX1_start_0 10 rfl rfl)
theorem dX1_start_13 : decode cX1_start 13 = .ok (.iaload, 1) := dk_46 (dk_at dksX1_start_0 13 rfl rfl)
theorem dX1_start_14 : decode cX1_start 14 = .ok (.ireturn, 1) := dk_172 (dk_at dksX1_start_0 14 rfl rfl)
abbrev cX1_leave : ByteArray := prog_1_method_23_code
def yX1_leave : MethodName := ⟨RX1, "leave", "(II)I"⟩
def dkwX1_leave_0 : List UInt8 := [42, 180, 0, 37, 42, 27, 28, 182, 0, 143, 182, 0, 169, 172]
abbrev dktX1_leave_0 : List UInt8 := dkwX1_leave_0 ++ []
theorem dksX1_leave_0 : cX1_leave.data.toList.drop 0 = dktX1_leave_0 := by decide +kernel
theorem dX1_leave_0 : decode cX1_leave 0 = .ok (.aload_n 0, 1) := dk_42 (dk_at dksX1_leave_0 0 rfl rfl)
theorem dX1_leave_1 : decode cX1_leave 1 = .ok (.getfield 37, 3) := dk_180 0 37 (dk_at dksX1_leave_0 1 rfl rfl)
theorem dX1_leave_4 : decode cX1_leave 4 = .ok (.aload_n 0, 1) := dk_42 (dk_at dksX1_leave_0 4 rfl rfl)
theorem dX1_leave_5 : decode cX1_leave 5 = .ok (.iload_n 1, 1) := dk_27 (dk_at dksX1_leave_0 5 rfl rfl)
theorem dX1_leave_6 : decode cX1_leave 6 = .ok (.iload_n 2, 1) := dk_28 (dk_at dksX1_leave_0 6 rfl rfl)
theorem dX1_leave_7 : decode cX1_leave 7 = .ok (.invokevirtual 143, 3) := dk_182 0 143 (dk_at dksX1_leave_0 7 rfl rfl)
theorem dX1_leave_10 : decode cX1_leave 10 = .ok (.invokevirtual 169, 3) := dk_182 0 169 (dk_at dksX1_leave_0 10 rfl rfl)
theorem dX1_leave_13 : decode cX1_leave 13 = .ok (.ireturn, 1) := dk_172 (dk_at dksX1_leave_0 13 rfl rfl)
abbrev cX1_completion : ByteArray := prog_1_method_24_code
def yX1_completion : MethodName := ⟨RX1, "completion", "(I)I"⟩
def dkwX1_completion_0 : List UInt8 := [42, 27, 182, 0, 87, 42, 180, 0, 37, 27, 182, 0, 172, 172]
abbrev dktX1_completion_0 : List UInt8 := dkwX1_completion_0 ++ []
theorem dksX1_completion_0 : cX1_completion.data.toList.drop 0 = dktX1_completion_0 := by decide +kernel
theorem dX1_completion_0 : decode cX1_completion 0 = .ok (.aload_n 0, 1) := dk_42 (dk_at dksX1_completion_0 0 rfl rfl)
theorem dX1_completion_1 : decode cX1_completion 1 = .ok (.iload_n 1, 1) := dk_27 (dk_at dksX1_completion_0 1 rfl rfl)
theorem dX1_completion_2 : decode cX1_completion 2 = .ok (.invokevirtual 87, 3) := dk_182 0 87 (dk_at dksX1_completion_0 2 rfl rfl)
theorem dX1_completion_5 : decode cX1_completion 5 = .ok (.aload_n 0, 1) := dk_42 (dk_at dksX1_completion_0 5 rfl rfl)
theorem dX1_completion_6 : decode cX1_completion 6 = .ok (.getfield 37, 3) := dk_180 0 37 (dk_at dksX1_completion_0 6 rfl rfl)
theorem dX1_completion_9 : decode cX1_completion 9 = .ok (.iload_n 1, 1) := dk_27 (dk_at dksX1_completion_0 9 rfl rfl)
theorem dX1_completion_10 : decode cX1_completion 10 = .ok (.invokevirtual 172, 3) := dk_182 0 172 (dk_at dksX1_completion_0 10 rfl rfl)
theorem dX1_completion_13 : decode cX1_completion 13 = .ok (.ireturn, 1) := dk_172 (dk_at dksX1_completion_0 13 rfl rfl)
abbrev cX1_jobCost : ByteArray := prog_1_method_26_code
def yX1_jobCost : MethodName := ⟨RX1, "jobCost", "(I)I"⟩
def dkwX1_jobCost_0 : List UInt8 := [42, 27, 182, 0, 87, 42, 180, 0, 37, 27, 182, 0, 178, 172]
abbrev dktX1_jobCost_0 : List UInt8 := dkwX1_jobCost_0 ++ []
theorem dksX1_jobCost_0 : cX1_jobCost.data.toList.drop 0 = dktX1_jobCost_0 := by decide +kernel
theorem dX1_jobCost_0 : decode cX1_jobCost 0 = .ok (.aload_n 0, 1) := dk_42 (dk_at dksX1_jobCost_0 0 rfl rfl)
theorem dX1_jobCost_1 : decode cX1_jobCost 1 = .ok (.iload_n 1, 1) := dk_27 (dk_at dksX1_jobCost_0 1 rfl rfl)
theorem dX1_jobCost_2 : decode cX1_jobCost 2 = .ok (.invokevirtual 87, 3) := dk_182 0 87 (dk_at dksX1_jobCost_0 2 rfl rfl)
theorem dX1_jobCost_5 : decode cX1_jobCost 5 = .ok (.aload_n 0, 1) := dk_42 (dk_at dksX1_jobCost_0 5 rfl rfl)
theorem dX1_jobCost_6 : decode cX1_jobCost 6 = .ok (.getfield 37, 3) := dk_180 0 37 (dk_at dksX1_jobCost_0 6 rfl rfl)
theorem dX1_jobCost_9 : decode cX1_jobCost 9 = .ok (.iload_n 1, 1) := dk_27 (dk_at dksX1_jobCost_0 9 rfl rfl)
theorem dX1_jobCost_10 : decode cX1_jobCost 10 = .ok (.invokevirtual 178, 3) := dk_182 0 178 (dk_at dksX1_jobCost_0 10 rfl rfl)
theorem dX1_jobCost_13 : decode cX1_jobCost 13 = .ok (.ireturn, 1) := dk_172 (dk_at dksX1_jobCost_0 13 rfl rfl)
abbrev cX1_blockedTime : ByteArray := prog_1_method_28_code
def yX1_blockedTime : MethodName := ⟨RX1, "blockedTime", "(I)I"⟩
def dkwX1_blockedTime_2 : List UInt8 := [180, 0, 37, 180, 0, 159, 27, 50, 29, 46, 182, 0, 184, 100, 96, 61, 132, 3, 1, 167, 255, 200, 28, 172]
abbrev dktX1_blockedTime_2 : List UInt8 := dkwX1_blockedTime_2 ++ []
def dkwX1_blockedTime_1 : List UInt8 := [180, 0, 37, 42, 180, 0, 37, 180, 0, 159, 27, 50, 29, 46, 182, 0, 169, 42, 180, 0, 37, 42]
abbrev dktX1_blockedTime_1 : List UInt8 := dkwX1_blockedTime_1 ++ dktX1_blockedTime_2
def dkwX1_blockedTime_0 : List UInt8 := [42, 27, 182, 0, 79, 3, 61, 3, 62, 29, 42, 180, 0, 37, 180, 0, 83, 27, 46, 162, 0, 49, 28, 42]
abbrev dktX1_blockedTime_0 : List UInt8 := dkwX1_blockedTime_0 ++ dktX1_blockedTime_1
theorem dksX1_blockedTime_0 : cX1_blockedTime.data.toList.drop 0 = dktX1_blockedTime_0 := by decide +kernel
theorem dksX1_blockedTime_1 : cX1_blockedTime.data.toList.drop 24 = dktX1_blockedTime_1 := dk_seg dksX1_blockedTime_0 24 rfl rfl
theorem dksX1_blockedTime_2 : cX1_blockedTime.data.toList.drop 46 = dktX1_blockedTime_2 := dk_seg dksX1_blockedTime_1 22 rfl rfl
theorem dX1_blockedTime_0 : decode cX1_blockedTime 0 = .ok (.aload_n 0, 1) := dk_42 (dk_at dksX1_blockedTime_0 0 rfl rfl)
theorem dX1_blockedTime_1 : decode cX1_blockedTime 1 = .ok (.iload_n 1, 1) := dk_27 (dk_at dksX1_blockedTime_0 1 rfl rfl)
theorem dX1_blockedTime_2 : decode cX1_blockedTime 2 = .ok (.invokevirtual 79, 3) := dk_182 0 79 (dk_at dksX1_blockedTime_0 2 rfl rfl)
theorem dX1_blockedTime_5 : decode cX1_blockedTime 5 = .ok (.iconst 0, 1) := dk_3 (dk_at dksX1_blockedTime_0 5 rfl rfl)
theorem dX1_blockedTime_6 : decode cX1_blockedTime 6 = .ok (.istore_n 2, 1) := dk_61 (dk_at dksX1_blockedTime_0 6 rfl rfl)
theorem dX1_blockedTime_7 : decode cX1_blockedTime 7 = .ok (.iconst 0, 1) := dk_3 (dk_at dksX1_blockedTime_0 7 rfl rfl)
theorem dX1_blockedTime_8 : decode cX1_blockedTime 8 = .ok (.istore_n 3, 1) := dk_62 (dk_at dksX1_blockedTime_0 8 rfl rfl)
theorem dX1_blockedTime_9 : decode cX1_blockedTime 9 = .ok (.iload_n 3, 1) := dk_29 (dk_at dksX1_blockedTime_0 9 rfl rfl)
theorem dX1_blockedTime_10 : decode cX1_blockedTime 10 = .ok (.aload_n 0, 1) := dk_42 (dk_at dksX1_blockedTime_0 10 rfl rfl)
theorem dX1_blockedTime_11 : decode cX1_blockedTime 11 = .ok (.getfield 37, 3) := dk_180 0 37 (dk_at dksX1_blockedTime_0 11 rfl rfl)
theorem dX1_blockedTime_14 : decode cX1_blockedTime 14 = .ok (.getfield 83, 3) := dk_180 0 83 (dk_at dksX1_blockedTime_0 14 rfl rfl)
theorem dX1_blockedTime_17 : decode cX1_blockedTime 17 = .ok (.iload_n 1, 1) := dk_27 (dk_at dksX1_blockedTime_0 17 rfl rfl)
theorem dX1_blockedTime_18 : decode cX1_blockedTime 18 = .ok (.iaload, 1) := dk_46 (dk_at dksX1_blockedTime_0 18 rfl rfl)
theorem dX1_blockedTime_19 : decode cX1_blockedTime 19 = .ok (.if_icmp .ge 49, 3) := dk_162 0 49 (dk_at dksX1_blockedTime_0 19 rfl rfl)
theorem dX1_blockedTime_22 : decode cX1_blockedTime 22 = .ok (.iload_n 2, 1) := dk_28 (dk_at dksX1_blockedTime_0 22 rfl rfl)
theorem dX1_blockedTime_23 : decode cX1_blockedTime 23 = .ok (.aload_n 0, 1) := dk_42 (dk_at dksX1_blockedTime_0 23 rfl rfl)
theorem dX1_blockedTime_24 : decode cX1_blockedTime 24 = .ok (.getfield 37, 3) := dk_180 0 37 (dk_at dksX1_blockedTime_1 0 rfl rfl)
theorem dX1_blockedTime_27 : decode cX1_blockedTime 27 = .ok (.aload_n 0, 1) := dk_42 (dk_at dksX1_blockedTime_1 3 rfl rfl)
theorem dX1_blockedTime_28 : decode cX1_blockedTime 28 = .ok (.getfield 37, 3) := dk_180 0 37 (dk_at dksX1_blockedTime_1 4 rfl rfl)
theorem dX1_blockedTime_31 : decode cX1_blockedTime 31 = .ok (.getfield 159, 3) := dk_180 0 159 (dk_at dksX1_blockedTime_1 7 rfl rfl)
theorem dX1_blockedTime_34 : decode cX1_blockedTime 34 = .ok (.iload_n 1, 1) := dk_27 (dk_at dksX1_blockedTime_1 10 rfl rfl)
theorem dX1_blockedTime_35 : decode cX1_blockedTime 35 = .ok (.aaload, 1) := dk_50 (dk_at dksX1_blockedTime_1 11 rfl rfl)
theorem dX1_blockedTime_36 : decode cX1_blockedTime 36 = .ok (.iload_n 3, 1) := dk_29 (dk_at dksX1_blockedTime_1 12 rfl rfl)
theorem dX1_blockedTime_37 : decode cX1_blockedTime 37 = .ok (.iaload, 1) := dk_46 (dk_at dksX1_blockedTime_1 13 rfl rfl)
theorem dX1_blockedTime_38 : decode cX1_blockedTime 38 = .ok (.invokevirtual 169, 3) := dk_182 0 169 (dk_at dksX1_blockedTime_1 14 rfl rfl)
theorem dX1_blockedTime_41 : decode cX1_blockedTime 41 = .ok (.aload_n 0, 1) := dk_42 (dk_at dksX1_blockedTime_1 17 rfl rfl)
theorem dX1_blockedTime_42 : decode cX1_blockedTime 42 = .ok (.getfield 37, 3) := dk_180 0 37 (dk_at dksX1_blockedTime_1 18 rfl rfl)
theorem dX1_blockedTime_45 : decode cX1_blockedTime 45 = .ok (.aload_n 0, 1) := dk_42 (dk_at dksX1_blockedTime_1 21 rfl rfl)
theorem dX1_blockedTime_46 : decode cX1_blockedTime 46 = .ok (.getfield 37, 3) := dk_180 0 37 (dk_at dksX1_blockedTime_2 0 rfl rfl)
theorem dX1_blockedTime_49 : decode cX1_blockedTime 49 = .ok (.getfield 159, 3) := dk_180 0 159 (dk_at dksX1_blockedTime_2 3 rfl rfl)
theorem dX1_blockedTime_52 : decode cX1_blockedTime 52 = .ok (.iload_n 1, 1) := dk_27 (dk_at dksX1_blockedTime_2 6 rfl rfl)
theorem dX1_blockedTime_53 : decode cX1_blockedTime 53 = .ok (.aaload, 1) := dk_50 (dk_at dksX1_blockedTime_2 7 rfl rfl)
theorem dX1_blockedTime_54 : decode cX1_blockedTime 54 = .ok (.iload_n 3, 1) := dk_29 (dk_at dksX1_blockedTime_2 8 rfl rfl)
theorem dX1_blockedTime_55 : decode cX1_blockedTime 55 = .ok (.iaload, 1) := dk_46 (dk_at dksX1_blockedTime_2 9 rfl rfl)
theorem dX1_blockedTime_56 : decode cX1_blockedTime 56 = .ok (.invokevirtual 184, 3) := dk_182 0 184 (dk_at dksX1_blockedTime_2 10 rfl rfl)
theorem dX1_blockedTime_59 : decode cX1_blockedTime 59 = .ok (.isub, 1) := dk_100 (dk_at dksX1_blockedTime_2 13 rfl rfl)
theorem dX1_blockedTime_60 : decode cX1_blockedTime 60 = .ok (.iadd, 1) := dk_96 (dk_at dksX1_blockedTime_2 14 rfl rfl)
theorem dX1_blockedTime_61 : decode cX1_blockedTime 61 = .ok (.istore_n 2, 1) := dk_61 (dk_at dksX1_blockedTime_2 15 rfl rfl)
theorem dX1_blockedTime_62 : decode cX1_blockedTime 62 = .ok (.iinc 3 1, 3) := dk_132 3 1 (dk_at dksX1_blockedTime_2 16 rfl rfl)
theorem dX1_blockedTime_65 : decode cX1_blockedTime 65 = .ok (.goto (-56), 3) := dk_167 255 200 (dk_at dksX1_blockedTime_2 19 rfl rfl)
theorem dX1_blockedTime_68 : decode cX1_blockedTime 68 = .ok (.iload_n 2, 1) := dk_28 (dk_at dksX1_blockedTime_2 22 rfl rfl)
theorem dX1_blockedTime_69 : decode cX1_blockedTime 69 = .ok (.ireturn, 1) := dk_172 (dk_at dksX1_blockedTime_2 23 rfl rfl)
abbrev cX1_critical : ByteArray := prog_1_method_30_code
def yX1_critical : MethodName := ⟨RX1, "critical", "(I)I"⟩
def dkwX1_critical_1 : List UInt8 := [187, 0, 194, 89, 183, 0, 196, 191, 44, 27, 182, 0, 197, 192, 0, 198, 182, 0, 200, 184, 0, 163, 172]
abbrev dktX1_critical_1 : List UInt8 := dkwX1_critical_1 ++ []
def dkwX1_critical_0 : List UInt8 := [42, 180, 0, 37, 182, 0, 187, 77, 27, 133, 9, 44, 182, 0, 191, 4, 100, 133, 184, 0, 45, 154, 0, 11]
abbrev dktX1_critical_0 : List UInt8 := dkwX1_critical_0 ++ dktX1_critical_1
theorem dksX1_critical_0 : cX1_critical.data.toList.drop 0 = dktX1_critical_0 := by decide +kernel
theorem dksX1_critical_1 : cX1_critical.data.toList.drop 24 = dktX1_critical_1 := dk_seg dksX1_critical_0 24 rfl rfl
theorem dX1_critical_0 : decode cX1_critical 0 = .ok (.aload_n 0, 1) := dk_42 (dk_at dksX1_critical_0 0 rfl rfl)
theorem dX1_critical_1 : decode cX1_critical 1 = .ok (.getfield 37, 3) := dk_180 0 37 (dk_at dksX1_critical_0 1 rfl rfl)
theorem dX1_critical_4 : decode cX1_critical 4 = .ok (.invokevirtual 187, 3) := dk_182 0 187 (dk_at dksX1_critical_0 4 rfl rfl)
theorem dX1_critical_7 : decode cX1_critical 7 = .ok (.astore_n 2, 1) := dk_77 (dk_at dksX1_critical_0 7 rfl rfl)
theorem dX1_critical_8 : decode cX1_critical 8 = .ok (.iload_n 1, 1) := dk_27 (dk_at dksX1_critical_0 8 rfl rfl)
theorem dX1_critical_9 : decode cX1_critical 9 = .ok (.i2l, 1) := dk_133 (dk_at dksX1_critical_0 9 rfl rfl)
theorem dX1_critical_10 : decode cX1_critical 10 = .ok (.lconst 0, 1) := dk_9 (dk_at dksX1_critical_0 10 rfl rfl)
theorem dX1_critical_11 : decode cX1_critical 11 = .ok (.aload_n 2, 1) := dk_44 (dk_at dksX1_critical_0 11 rfl rfl)
theorem dX1_critical_12 : decode cX1_critical 12 = .ok (.invokevirtual 191, 3) := dk_182 0 191 (dk_at dksX1_critical_0 12 rfl rfl)
theorem dX1_critical_15 : decode cX1_critical 15 = .ok (.iconst 1, 1) := dk_4 (dk_at dksX1_critical_0 15 rfl rfl)
theorem dX1_critical_16 : decode cX1_critical 16 = .ok (.isub, 1) := dk_100 (dk_at dksX1_critical_0 16 rfl rfl)
theorem dX1_critical_17 : decode cX1_critical 17 = .ok (.i2l, 1) := dk_133 (dk_at dksX1_critical_0 17 rfl rfl)
theorem dX1_critical_18 : decode cX1_critical 18 = .ok (.invokestatic 45, 3) := dk_184 0 45 (dk_at dksX1_critical_0 18 rfl rfl)
theorem dX1_critical_21 : decode cX1_critical 21 = .ok (.ifCond .ne 11, 3) := dk_154 0 11 (dk_at dksX1_critical_0 21 rfl rfl)
theorem dX1_critical_24 : decode cX1_critical 24 = .ok (.new 194, 3) := dk_187 0 194 (dk_at dksX1_critical_1 0 rfl rfl)
theorem dX1_critical_27 : decode cX1_critical 27 = .ok (.dup, 1) := dk_89 (dk_at dksX1_critical_1 3 rfl rfl)
theorem dX1_critical_28 : decode cX1_critical 28 = .ok (.invokespecial 196, 3) := dk_183 0 196 (dk_at dksX1_critical_1 4 rfl rfl)
theorem dX1_critical_31 : decode cX1_critical 31 = .ok (.athrow, 1) := dk_191 (dk_at dksX1_critical_1 7 rfl rfl)
theorem dX1_critical_32 : decode cX1_critical 32 = .ok (.aload_n 2, 1) := dk_44 (dk_at dksX1_critical_1 8 rfl rfl)
theorem dX1_critical_33 : decode cX1_critical 33 = .ok (.iload_n 1, 1) := dk_27 (dk_at dksX1_critical_1 9 rfl rfl)
theorem dX1_critical_34 : decode cX1_critical 34 = .ok (.invokevirtual 197, 3) := dk_182 0 197 (dk_at dksX1_critical_1 10 rfl rfl)
theorem dX1_critical_37 : decode cX1_critical 37 = .ok (.checkcast 198, 3) := dk_192 0 198 (dk_at dksX1_critical_1 13 rfl rfl)
theorem dX1_critical_40 : decode cX1_critical 40 = .ok (.invokevirtual 200, 3) := dk_182 0 200 (dk_at dksX1_critical_1 16 rfl rfl)
theorem dX1_critical_43 : decode cX1_critical 43 = .ok (.invokestatic 163, 3) := dk_184 0 163 (dk_at dksX1_critical_1 19 rfl rfl)
theorem dX1_critical_46 : decode cX1_critical 46 = .ok (.ireturn, 1) := dk_172 (dk_at dksX1_critical_1 22 rfl rfl)
abbrev cX1_deadlocks : ByteArray := prog_1_method_33_code
def yX1_deadlocks : MethodName := ⟨RX1, "deadlocks", "(II)Z"⟩
def dkwX1_deadlocks_0 : List UInt8 := [42, 27, 28, 182, 0, 225, 2, 160, 0, 7, 4, 167, 0, 4, 3, 172]
abbrev dktX1_deadlocks_0 : List UInt8 := dkwX1_deadlocks_0 ++ []
theorem dksX1_deadlocks_0 : cX1_deadlocks.data.toList.drop 0 = dktX1_deadlocks_0 := by decide +kernel
theorem dX1_deadlocks_0 : decode cX1_deadlocks 0 = .ok (.aload_n 0, 1) := dk_42 (dk_at dksX1_deadlocks_0 0 rfl rfl)
theorem dX1_deadlocks_1 : decode cX1_deadlocks 1 = .ok (.iload_n 1, 1) := dk_27 (dk_at dksX1_deadlocks_0 1 rfl rfl)
theorem dX1_deadlocks_2 : decode cX1_deadlocks 2 = .ok (.iload_n 2, 1) := dk_28 (dk_at dksX1_deadlocks_0 2 rfl rfl)
theorem dX1_deadlocks_3 : decode cX1_deadlocks 3 = .ok (.invokevirtual 225, 3) := dk_182 0 225 (dk_at dksX1_deadlocks_0 3 rfl rfl)
theorem dX1_deadlocks_6 : decode cX1_deadlocks 6 = .ok (.iconst (-1), 1) := dk_2 (dk_at dksX1_deadlocks_0 6 rfl rfl)
theorem dX1_deadlocks_7 : decode cX1_deadlocks 7 = .ok (.if_icmp .ne 7, 3) := dk_160 0 7 (dk_at dksX1_deadlocks_0 7 rfl rfl)
theorem dX1_deadlocks_10 : decode cX1_deadlocks 10 = .ok (.iconst 1, 1) := dk_4 (dk_at dksX1_deadlocks_0 10 rfl rfl)
theorem dX1_deadlocks_11 : decode cX1_deadlocks 11 = .ok (.goto 4, 3) := dk_167 0 4 (dk_at dksX1_deadlocks_0 11 rfl rfl)
theorem dX1_deadlocks_14 : decode cX1_deadlocks 14 = .ok (.iconst 0, 1) := dk_3 (dk_at dksX1_deadlocks_0 14 rfl rfl)
theorem dX1_deadlocks_15 : decode cX1_deadlocks 15 = .ok (.ireturn, 1) := dk_172 (dk_at dksX1_deadlocks_0 15 rfl rfl)
abbrev cX1_makespanAfter : ByteArray := prog_1_method_34_code
def yX1_makespanAfter : MethodName := ⟨RX1, "makespanAfter", "(II)I"⟩
def dkwX1_makespanAfter_1 : List UInt8 := [180, 0, 23, 182, 0, 127, 153, 0, 10, 45, 182, 0, 175, 167, 0, 4, 2, 172]
abbrev dktX1_makespanAfter_1 : List UInt8 := dkwX1_makespanAfter_1 ++ []
def dkwX1_makespanAfter_0 : List UInt8 := [42, 27, 28, 182, 0, 228, 42, 180, 0, 37, 182, 0, 231, 78, 45, 27, 28, 182, 0, 234, 45, 42]
abbrev dktX1_makespanAfter_0 : List UInt8 := dkwX1_makespanAfter_0 ++ dktX1_makespanAfter_1
theorem dksX1_makespanAfter_0 : cX1_makespanAfter.data.toList.drop 0 = dktX1_makespanAfter_0 := by decide +kernel
theorem dksX1_makespanAfter_1 : cX1_makespanAfter.data.toList.drop 22 = dktX1_makespanAfter_1 := dk_seg dksX1_makespanAfter_0 22 rfl rfl
theorem dX1_makespanAfter_0 : decode cX1_makespanAfter 0 = .ok (.aload_n 0, 1) := dk_42 (dk_at dksX1_makespanAfter_0 0 rfl rfl)
theorem dX1_makespanAfter_1 : decode cX1_makespanAfter 1 = .ok (.iload_n 1, 1) := dk_27 (dk_at dksX1_makespanAfter_0 1 rfl rfl)
theorem dX1_makespanAfter_2 : decode cX1_makespanAfter 2 = .ok (.iload_n 2, 1) := dk_28 (dk_at dksX1_makespanAfter_0 2 rfl rfl)
theorem dX1_makespanAfter_3 : decode cX1_makespanAfter 3 = .ok (.invokevirtual 228, 3) := dk_182 0 228 (dk_at dksX1_makespanAfter_0 3 rfl rfl)
theorem dX1_makespanAfter_6 : decode cX1_makespanAfter 6 = .ok (.aload_n 0, 1) := dk_42 (dk_at dksX1_makespanAfter_0 6 rfl rfl)
theorem dX1_makespanAfter_7 : decode cX1_makespanAfter 7 = .ok (.getfield 37, 3) := dk_180 0 37 (dk_at dksX1_makespanAfter_0 7 rfl rfl)
theorem dX1_makespanAfter_10 : decode cX1_makespanAfter 10 = .ok (.invokevirtual 231, 3) := dk_182 0 231 (dk_at dksX1_makespanAfter_0 10 rfl rfl)
theorem dX1_makespanAfter_13 : decode cX1_makespanAfter 13 = .ok (.astore_n 3, 1) := dk_78 (dk_at dksX1_makespanAfter_0 13 rfl rfl)
theorem dX1_makespanAfter_14 : decode cX1_makespanAfter 14 = .ok (.aload_n 3, 1) := dk_45 (dk_at dksX1_makespanAfter_0 14 rfl rfl)
theorem dX1_makespanAfter_15 : decode cX1_makespanAfter 15 = .ok (.iload_n 1, 1) := dk_27 (dk_at dksX1_makespanAfter_0 15 rfl rfl)
theorem dX1_makespanAfter_16 : decode cX1_makespanAfter 16 = .ok (.iload_n 2, 1) := dk_28 (dk_at dksX1_makespanAfter_0 16 rfl rfl)
theorem dX1_makespanAfter_17 : decode cX1_makespanAfter 17 = .ok (.invokevirtual 234, 3) := dk_182 0 234 (dk_at dksX1_makespanAfter_0 17 rfl rfl)
theorem dX1_makespanAfter_20 : decode cX1_makespanAfter 20 = .ok (.aload_n 3, 1) := dk_45 (dk_at dksX1_makespanAfter_0 20 rfl rfl)
theorem dX1_makespanAfter_21 : decode cX1_makespanAfter 21 = .ok (.aload_n 0, 1) := dk_42 (dk_at dksX1_makespanAfter_0 21 rfl rfl)
theorem dX1_makespanAfter_22 : decode cX1_makespanAfter 22 = .ok (.getfield 23, 3) := dk_180 0 23 (dk_at dksX1_makespanAfter_1 0 rfl rfl)
theorem dX1_makespanAfter_25 : decode cX1_makespanAfter 25 = .ok (.invokevirtual 127, 3) := dk_182 0 127 (dk_at dksX1_makespanAfter_1 3 rfl rfl)
theorem dX1_makespanAfter_28 : decode cX1_makespanAfter 28 = .ok (.ifCond .eq 10, 3) := dk_153 0 10 (dk_at dksX1_makespanAfter_1 6 rfl rfl)
theorem dX1_makespanAfter_31 : decode cX1_makespanAfter 31 = .ok (.aload_n 3, 1) := dk_45 (dk_at dksX1_makespanAfter_1 9 rfl rfl)
theorem dX1_makespanAfter_32 : decode cX1_makespanAfter 32 = .ok (.invokevirtual 175, 3) := dk_182 0 175 (dk_at dksX1_makespanAfter_1 10 rfl rfl)
theorem dX1_makespanAfter_35 : decode cX1_makespanAfter 35 = .ok (.goto 4, 3) := dk_167 0 4 (dk_at dksX1_makespanAfter_1 13 rfl rfl)
theorem dX1_makespanAfter_38 : decode cX1_makespanAfter 38 = .ok (.iconst (-1), 1) := dk_2 (dk_at dksX1_makespanAfter_1 16 rfl rfl)
theorem dX1_makespanAfter_39 : decode cX1_makespanAfter 39 = .ok (.ireturn, 1) := dk_172 (dk_at dksX1_makespanAfter_1 17 rfl rfl)
abbrev cX1_requireSwap : ByteArray := prog_1_method_8_code
def yX1_requireSwap : MethodName := ⟨RX1, "requireSwap", "(II)V"⟩
def dkwX1_requireSwap_0 : List UInt8 := [42, 27, 182, 0, 79, 28, 42, 180, 0, 37, 180, 0, 83, 27, 46, 4, 100, 184, 0, 72, 177]
abbrev dktX1_requireSwap_0 : List UInt8 := dkwX1_requireSwap_0 ++ []
theorem dksX1_requireSwap_0 : cX1_requireSwap.data.toList.drop 0 = dktX1_requireSwap_0 := by decide +kernel
theorem dX1_requireSwap_0 : decode cX1_requireSwap 0 = .ok (.aload_n 0, 1) := dk_42 (dk_at dksX1_requireSwap_0 0 rfl rfl)
theorem dX1_requireSwap_1 : decode cX1_requireSwap 1 = .ok (.iload_n 1, 1) := dk_27 (dk_at dksX1_requireSwap_0 1 rfl rfl)
theorem dX1_requireSwap_2 : decode cX1_requireSwap 2 = .ok (.invokevirtual 79, 3) := dk_182 0 79 (dk_at dksX1_requireSwap_0 2 rfl rfl)
theorem dX1_requireSwap_5 : decode cX1_requireSwap 5 = .ok (.iload_n 2, 1) := dk_28 (dk_at dksX1_requireSwap_0 5 rfl rfl)
theorem dX1_requireSwap_6 : decode cX1_requireSwap 6 = .ok (.aload_n 0, 1) := dk_42 (dk_at dksX1_requireSwap_0 6 rfl rfl)
theorem dX1_requireSwap_7 : decode cX1_requireSwap 7 = .ok (.getfield 37, 3) := dk_180 0 37 (dk_at dksX1_requireSwap_0 7 rfl rfl)
theorem dX1_requireSwap_10 : decode cX1_requireSwap 10 = .ok (.getfield 83, 3) := dk_180 0 83 (dk_at dksX1_requireSwap_0 10 rfl rfl)
theorem dX1_requireSwap_13 : decode cX1_requireSwap 13 = .ok (.iload_n 1, 1) := dk_27 (dk_at dksX1_requireSwap_0 13 rfl rfl)
theorem dX1_requireSwap_14 : decode cX1_requireSwap 14 = .ok (.iaload, 1) := dk_46 (dk_at dksX1_requireSwap_0 14 rfl rfl)
theorem dX1_requireSwap_15 : decode cX1_requireSwap 15 = .ok (.iconst 1, 1) := dk_4 (dk_at dksX1_requireSwap_0 15 rfl rfl)
theorem dX1_requireSwap_16 : decode cX1_requireSwap 16 = .ok (.isub, 1) := dk_100 (dk_at dksX1_requireSwap_0 16 rfl rfl)
theorem dX1_requireSwap_17 : decode cX1_requireSwap 17 = .ok (.invokestatic 72, 3) := dk_184 0 72 (dk_at dksX1_requireSwap_0 17 rfl rfl)
theorem dX1_requireSwap_20 : decode cX1_requireSwap 20 = .ok (.return_, 1) := dk_177 (dk_at dksX1_requireSwap_0 20 rfl rfl)
abbrev cX1_swap : ByteArray := prog_1_method_38_code
def yX1_swap : MethodName := ⟨RX1, "swap", "(II)I"⟩
def dkwX1_swap_1 : List UInt8 := [182, 0, 251, 172]
abbrev dktX1_swap_1 : List UInt8 := dkwX1_swap_1 ++ []
def dkwX1_swap_0 : List UInt8 := [42, 27, 28, 182, 0, 228, 42, 180, 0, 37, 182, 0, 231, 78, 45, 27, 28, 182, 0, 234, 42, 45]
abbrev dktX1_swap_0 : List UInt8 := dkwX1_swap_0 ++ dktX1_swap_1
theorem dksX1_swap_0 : cX1_swap.data.toList.drop 0 = dktX1_swap_0 := by decide +kernel
theorem dksX1_swap_1 : cX1_swap.data.toList.drop 22 = dktX1_swap_1 := dk_seg dksX1_swap_0 22 rfl rfl
theorem dX1_swap_0 : decode cX1_swap 0 = .ok (.aload_n 0, 1) := dk_42 (dk_at dksX1_swap_0 0 rfl rfl)
theorem dX1_swap_1 : decode cX1_swap 1 = .ok (.iload_n 1, 1) := dk_27 (dk_at dksX1_swap_0 1 rfl rfl)
theorem dX1_swap_2 : decode cX1_swap 2 = .ok (.iload_n 2, 1) := dk_28 (dk_at dksX1_swap_0 2 rfl rfl)
theorem dX1_swap_3 : decode cX1_swap 3 = .ok (.invokevirtual 228, 3) := dk_182 0 228 (dk_at dksX1_swap_0 3 rfl rfl)
theorem dX1_swap_6 : decode cX1_swap 6 = .ok (.aload_n 0, 1) := dk_42 (dk_at dksX1_swap_0 6 rfl rfl)
theorem dX1_swap_7 : decode cX1_swap 7 = .ok (.getfield 37, 3) := dk_180 0 37 (dk_at dksX1_swap_0 7 rfl rfl)
theorem dX1_swap_10 : decode cX1_swap 10 = .ok (.invokevirtual 231, 3) := dk_182 0 231 (dk_at dksX1_swap_0 10 rfl rfl)
theorem dX1_swap_13 : decode cX1_swap 13 = .ok (.astore_n 3, 1) := dk_78 (dk_at dksX1_swap_0 13 rfl rfl)
theorem dX1_swap_14 : decode cX1_swap 14 = .ok (.aload_n 3, 1) := dk_45 (dk_at dksX1_swap_0 14 rfl rfl)
theorem dX1_swap_15 : decode cX1_swap 15 = .ok (.iload_n 1, 1) := dk_27 (dk_at dksX1_swap_0 15 rfl rfl)
theorem dX1_swap_16 : decode cX1_swap 16 = .ok (.iload_n 2, 1) := dk_28 (dk_at dksX1_swap_0 16 rfl rfl)
theorem dX1_swap_17 : decode cX1_swap 17 = .ok (.invokevirtual 234, 3) := dk_182 0 234 (dk_at dksX1_swap_0 17 rfl rfl)
theorem dX1_swap_20 : decode cX1_swap 20 = .ok (.aload_n 0, 1) := dk_42 (dk_at dksX1_swap_0 20 rfl rfl)
theorem dX1_swap_21 : decode cX1_swap 21 = .ok (.aload_n 3, 1) := dk_45 (dk_at dksX1_swap_0 21 rfl rfl)
theorem dX1_swap_22 : decode cX1_swap 22 = .ok (.invokevirtual 251, 3) := dk_182 0 251 (dk_at dksX1_swap_1 0 rfl rfl)
theorem dX1_swap_25 : decode cX1_swap 25 = .ok (.ireturn, 1) := dk_172 (dk_at dksX1_swap_1 3 rfl rfl)
abbrev cX1_requireTimed : ByteArray := prog_1_method_37_code
def yX1_requireTimed : MethodName := ⟨RX1, "requireTimed", "(LBlockingShop$Plan;)I"⟩
def dkwX1_requireTimed_0 : List UInt8 := [43, 42, 180, 0, 23, 182, 0, 127, 184, 0, 248, 42, 43, 182, 0, 131, 43, 182, 0, 175, 172]
abbrev dktX1_requireTimed_0 : List UInt8 := dkwX1_requireTimed_0 ++ []
theorem dksX1_requireTimed_0 : cX1_requireTimed.data.toList.drop 0 = dktX1_requireTimed_0 := by decide +kernel
theorem dX1_requireTimed_0 : decode cX1_requireTimed 0 = .ok (.aload_n 1, 1) := dk_43 (dk_at dksX1_requireTimed_0 0 rfl rfl)
theorem dX1_requireTimed_1 : decode cX1_requireTimed 1 = .ok (.aload_n 0, 1) := dk_42 (dk_at dksX1_requireTimed_0 1 rfl rfl)
theorem dX1_requireTimed_2 : decode cX1_requireTimed 2 = .ok (.getfield 23, 3) := dk_180 0 23 (dk_at dksX1_requireTimed_0 2 rfl rfl)
theorem dX1_requireTimed_5 : decode cX1_requireTimed 5 = .ok (.invokevirtual 127, 3) := dk_182 0 127 (dk_at dksX1_requireTimed_0 5 rfl rfl)
theorem dX1_requireTimed_8 : decode cX1_requireTimed 8 = .ok (.invokestatic 248, 3) := dk_184 0 248 (dk_at dksX1_requireTimed_0 8 rfl rfl)
theorem dX1_requireTimed_11 : decode cX1_requireTimed 11 = .ok (.aload_n 0, 1) := dk_42 (dk_at dksX1_requireTimed_0 11 rfl rfl)
theorem dX1_requireTimed_12 : decode cX1_requireTimed 12 = .ok (.aload_n 1, 1) := dk_43 (dk_at dksX1_requireTimed_0 12 rfl rfl)
theorem dX1_requireTimed_13 : decode cX1_requireTimed 13 = .ok (.invokevirtual 131, 3) := dk_182 0 131 (dk_at dksX1_requireTimed_0 13 rfl rfl)
theorem dX1_requireTimed_16 : decode cX1_requireTimed 16 = .ok (.aload_n 1, 1) := dk_43 (dk_at dksX1_requireTimed_0 16 rfl rfl)
theorem dX1_requireTimed_17 : decode cX1_requireTimed 17 = .ok (.invokevirtual 175, 3) := dk_182 0 175 (dk_at dksX1_requireTimed_0 17 rfl rfl)
theorem dX1_requireTimed_20 : decode cX1_requireTimed 20 = .ok (.ireturn, 1) := dk_172 (dk_at dksX1_requireTimed_0 20 rfl rfl)
abbrev cX1_requireState : ByteArray := prog_1_method_5_code
def yX1_requireState : MethodName := ⟨RX1, "requireState", "(Z)V"⟩
def dkwX1_requireState_0 : List UInt8 := [26, 154, 0, 11, 187, 0, 55, 89, 183, 0, 57, 191, 177]
abbrev dktX1_requireState_0 : List UInt8 := dkwX1_requireState_0 ++ []
theorem dksX1_requireState_0 : cX1_requireState.data.toList.drop 0 = dktX1_requireState_0 := by decide +kernel
theorem dX1_requireState_0 : decode cX1_requireState 0 = .ok (.iload_n 0, 1) := dk_26 (dk_at dksX1_requireState_0 0 rfl rfl)
theorem dX1_requireState_1 : decode cX1_requireState 1 = .ok (.ifCond .ne 11, 3) := dk_154 0 11 (dk_at dksX1_requireState_0 1 rfl rfl)
theorem dX1_requireState_4 : decode cX1_requireState 4 = .ok (.new 55, 3) := dk_187 0 55 (dk_at dksX1_requireState_0 4 rfl rfl)
theorem dX1_requireState_7 : decode cX1_requireState 7 = .ok (.dup, 1) := dk_89 (dk_at dksX1_requireState_0 7 rfl rfl)
theorem dX1_requireState_8 : decode cX1_requireState 8 = .ok (.invokespecial 57, 3) := dk_183 0 57 (dk_at dksX1_requireState_0 8 rfl rfl)
theorem dX1_requireState_11 : decode cX1_requireState 11 = .ok (.athrow, 1) := dk_191 (dk_at dksX1_requireState_0 11 rfl rfl)
theorem dX1_requireState_12 : decode cX1_requireState 12 = .ok (.return_, 1) := dk_177 (dk_at dksX1_requireState_0 12 rfl rfl)
abbrev cX1_improve : ByteArray := prog_1_method_39_code
def yX1_improve : MethodName := ⟨RX1, "improve", "(I)I"⟩
def dkwX1_improve_3 : List UInt8 := [153, 0, 15, 44, 25, 4, 182, 0, 237, 132, 5, 1, 167, 255, 220, 42, 44, 182, 0, 131, 21, 5, 172]
abbrev dktX1_improve_3 : List UInt8 := dkwX1_improve_3 ++ []
def dkwX1_improve_2 : List UInt8 := [21, 5, 27, 162, 0, 36, 42, 44, 45, 25, 4, 182, 0, 244, 2, 159, 0, 24, 25, 4, 44, 182, 0, 240]
abbrev dktX1_improve_2 : List UInt8 := dkwX1_improve_2 ++ dktX1_improve_3
def dkwX1_improve_1 : List UInt8 := [44, 180, 0, 58, 183, 0, 34, 78, 187, 0, 27, 89, 44, 180, 0, 58, 183, 0, 34, 58, 4, 3, 54, 5]
abbrev dktX1_improve_1 : List UInt8 := dkwX1_improve_1 ++ dktX1_improve_2
def dkwX1_improve_0 : List UInt8 := [27, 133, 10, 20, 0, 255, 184, 0, 45, 184, 0, 114, 42, 180, 0, 37, 182, 0, 231, 77, 187, 0, 27, 89]
abbrev dktX1_improve_0 : List UInt8 := dkwX1_improve_0 ++ dktX1_improve_1
theorem dksX1_improve_0 : cX1_improve.data.toList.drop 0 = dktX1_improve_0 := by decide +kernel
theorem dksX1_improve_1 : cX1_improve.data.toList.drop 24 = dktX1_improve_1 := dk_seg dksX1_improve_0 24 rfl rfl
theorem dksX1_improve_2 : cX1_improve.data.toList.drop 48 = dktX1_improve_2 := dk_seg dksX1_improve_1 24 rfl rfl
theorem dksX1_improve_3 : cX1_improve.data.toList.drop 72 = dktX1_improve_3 := dk_seg dksX1_improve_2 24 rfl rfl
theorem dX1_improve_0 : decode cX1_improve 0 = .ok (.iload_n 1, 1) := dk_27 (dk_at dksX1_improve_0 0 rfl rfl)
theorem dX1_improve_1 : decode cX1_improve 1 = .ok (.i2l, 1) := dk_133 (dk_at dksX1_improve_0 1 rfl rfl)
theorem dX1_improve_2 : decode cX1_improve 2 = .ok (.lconst 1, 1) := dk_10 (dk_at dksX1_improve_0 2 rfl rfl)
theorem dX1_improve_3 : decode cX1_improve 3 = .ok (.ldc2_w 255, 3) := dk_20 0 255 (dk_at dksX1_improve_0 3 rfl rfl)
theorem dX1_improve_6 : decode cX1_improve 6 = .ok (.invokestatic 45, 3) := dk_184 0 45 (dk_at dksX1_improve_0 6 rfl rfl)
theorem dX1_improve_9 : decode cX1_improve 9 = .ok (.invokestatic 114, 3) := dk_184 0 114 (dk_at dksX1_improve_0 9 rfl rfl)
theorem dX1_improve_12 : decode cX1_improve 12 = .ok (.aload_n 0, 1) := dk_42 (dk_at dksX1_improve_0 12 rfl rfl)
theorem dX1_improve_13 : decode cX1_improve 13 = .ok (.getfield 37, 3) := dk_180 0 37 (dk_at dksX1_improve_0 13 rfl rfl)
theorem dX1_improve_16 : decode cX1_improve 16 = .ok (.invokevirtual 231, 3) := dk_182 0 231 (dk_at dksX1_improve_0 16 rfl rfl)
theorem dX1_improve_19 : decode cX1_improve 19 = .ok (.astore_n 2, 1) := dk_77 (dk_at dksX1_improve_0 19 rfl rfl)
theorem dX1_improve_20 : decode cX1_improve 20 = .ok (.new 27, 3) := dk_187 0 27 (dk_at dksX1_improve_0 20 rfl rfl)
theorem dX1_improve_23 : decode cX1_improve 23 = .ok (.dup, 1) := dk_89 (dk_at dksX1_improve_0 23 rfl rfl)
theorem dX1_improve_24 : decode cX1_improve 24 = .ok (.aload_n 2, 1) := dk_44 (dk_at dksX1_improve_1 0 rfl rfl)
theorem dX1_improve_25 : decode cX1_improve 25 = .ok (.getfield 58, 3) := dk_180 0 58 (dk_at dksX1_improve_1 1 rfl rfl)
theorem dX1_improve_28 : decode cX1_improve 28 = .ok (.invokespecial 34, 3) := dk_183 0 34 (dk_at dksX1_improve_1 4 rfl rfl)
theorem dX1_improve_31 : decode cX1_improve 31 = .ok (.astore_n 3, 1) := dk_78 (dk_at dksX1_improve_1 7 rfl rfl)
theorem dX1_improve_32 : decode cX1_improve 32 = .ok (.new 27, 3) := dk_187 0 27 (dk_at dksX1_improve_1 8 rfl rfl)
theorem dX1_improve_35 : decode cX1_improve 35 = .ok (.dup, 1) := dk_89 (dk_at dksX1_improve_1 11 rfl rfl)
theorem dX1_improve_36 : decode cX1_improve 36 = .ok (.aload_n 2, 1) := dk_44 (dk_at dksX1_improve_1 12 rfl rfl)
theorem dX1_improve_37 : decode cX1_improve 37 = .ok (.getfield 58, 3) := dk_180 0 58 (dk_at dksX1_improve_1 13 rfl rfl)
theorem dX1_improve_40 : decode cX1_improve 40 = .ok (.invokespecial 34, 3) := dk_183 0 34 (dk_at dksX1_improve_1 16 rfl rfl)
theorem dX1_improve_43 : decode cX1_improve 43 = .ok (.astore 4, 2) := dk_58 4 (dk_at dksX1_improve_1 19 rfl rfl)
theorem dX1_improve_45 : decode cX1_improve 45 = .ok (.iconst 0, 1) := dk_3 (dk_at dksX1_improve_1 21 rfl rfl)
theorem dX1_improve_46 : decode cX1_improve 46 = .ok (.istore 5, 2) := dk_54 5 (dk_at dksX1_improve_1 22 rfl rfl)
theorem dX1_improve_48 : decode cX1_improve 48 = .ok (.iload 5, 2) := dk_21 5 (dk_at dksX1_improve_2 0 rfl rfl)
theorem dX1_improve_50 : decode cX1_improve 50 = .ok (.iload_n 1, 1) := dk_27 (dk_at dksX1_improve_2 2 rfl rfl)
theorem dX1_improve_51 : decode cX1_improve 51 = .ok (.if_icmp .ge 36, 3) := dk_162 0 36 (dk_at dksX1_improve_2 3 rfl rfl)
theorem dX1_improve_54 : decode cX1_improve 54 = .ok (.aload_n 0, 1) := dk_42 (dk_at dksX1_improve_2 6 rfl rfl)
theorem dX1_improve_55 : decode cX1_improve 55 = .ok (.aload_n 2, 1) := dk_44 (dk_at dksX1_improve_2 7 rfl rfl)
theorem dX1_improve_56 : decode cX1_improve 56 = .ok (.aload_n 3, 1) := dk_45 (dk_at dksX1_improve_2 8 rfl rfl)
theorem dX1_improve_57 : decode cX1_improve 57 = .ok (.aload 4, 2) := dk_25 4 (dk_at dksX1_improve_2 9 rfl rfl)
theorem dX1_improve_59 : decode cX1_improve 59 = .ok (.invokevirtual 244, 3) := dk_182 0 244 (dk_at dksX1_improve_2 11 rfl rfl)
theorem dX1_improve_62 : decode cX1_improve 62 = .ok (.iconst (-1), 1) := dk_2 (dk_at dksX1_improve_2 14 rfl rfl)
theorem dX1_improve_63 : decode cX1_improve 63 = .ok (.if_icmp .eq 24, 3) := dk_159 0 24 (dk_at dksX1_improve_2 15 rfl rfl)
theorem dX1_improve_66 : decode cX1_improve 66 = .ok (.aload 4, 2) := dk_25 4 (dk_at dksX1_improve_2 18 rfl rfl)
theorem dX1_improve_68 : decode cX1_improve 68 = .ok (.aload_n 2, 1) := dk_44 (dk_at dksX1_improve_2 20 rfl rfl)
theorem dX1_improve_69 : decode cX1_improve 69 = .ok (.invokevirtual 240, 3) := dk_182 0 240 (dk_at dksX1_improve_2 21 rfl rfl)
theorem dX1_improve_72 : decode cX1_improve 72 = .ok (.ifCond .eq 15, 3) := dk_153 0 15 (dk_at dksX1_improve_3 0 rfl rfl)
theorem dX1_improve_75 : decode cX1_improve 75 = .ok (.aload_n 2, 1) := dk_44 (dk_at dksX1_improve_3 3 rfl rfl)
theorem dX1_improve_76 : decode cX1_improve 76 = .ok (.aload 4, 2) := dk_25 4 (dk_at dksX1_improve_3 4 rfl rfl)
theorem dX1_improve_78 : decode cX1_improve 78 = .ok (.invokevirtual 237, 3) := dk_182 0 237 (dk_at dksX1_improve_3 6 rfl rfl)
theorem dX1_improve_81 : decode cX1_improve 81 = .ok (.iinc 5 1, 3) := dk_132 5 1 (dk_at dksX1_improve_3 9 rfl rfl)
theorem dX1_improve_84 : decode cX1_improve 84 = .ok (.goto (-36), 3) := dk_167 255 220 (dk_at dksX1_improve_3 12 rfl rfl)
theorem dX1_improve_87 : decode cX1_improve 87 = .ok (.aload_n 0, 1) := dk_42 (dk_at dksX1_improve_3 15 rfl rfl)
theorem dX1_improve_88 : decode cX1_improve 88 = .ok (.aload_n 2, 1) := dk_44 (dk_at dksX1_improve_3 16 rfl rfl)
theorem dX1_improve_89 : decode cX1_improve 89 = .ok (.invokevirtual 131, 3) := dk_182 0 131 (dk_at dksX1_improve_3 17 rfl rfl)
theorem dX1_improve_92 : decode cX1_improve 92 = .ok (.iload 5, 2) := dk_21 5 (dk_at dksX1_improve_3 20 rfl rfl)
theorem dX1_improve_94 : decode cX1_improve 94 = .ok (.ireturn, 1) := dk_172 (dk_at dksX1_improve_3 22 rfl rfl)
abbrev cX1_place : ByteArray := prog_1_method_40_code
def yX1_place : MethodName := ⟨RX1, "place", "(III)I"⟩
def dkwX1_place_2 : List UInt8 := [182, 1, 1, 42, 25, 5, 182, 0, 251, 172]
abbrev dktX1_place_2 : List UInt8 := dkwX1_place_2 ++ []
def dkwX1_place_1 : List UInt8 := [180, 0, 149, 21, 4, 46, 46, 184, 0, 72, 42, 180, 0, 37, 182, 0, 231, 58, 5, 25, 5, 21, 4, 29]
abbrev dktX1_place_1 : List UInt8 := dkwX1_place_1 ++ dktX1_place_2
def dkwX1_place_0 : List UInt8 := [42, 27, 28, 182, 0, 143, 54, 4, 29, 42, 180, 0, 37, 180, 0, 83, 42, 180, 0, 37, 180, 0, 58]
abbrev dktX1_place_0 : List UInt8 := dkwX1_place_0 ++ dktX1_place_1
theorem dksX1_place_0 : cX1_place.data.toList.drop 0 = dktX1_place_0 := by decide +kernel
theorem dksX1_place_1 : cX1_place.data.toList.drop 23 = dktX1_place_1 := dk_seg dksX1_place_0 23 rfl rfl
theorem dksX1_place_2 : cX1_place.data.toList.drop 47 = dktX1_place_2 := dk_seg dksX1_place_1 24 rfl rfl
theorem dX1_place_0 : decode cX1_place 0 = .ok (.aload_n 0, 1) := dk_42 (dk_at dksX1_place_0 0 rfl rfl)
theorem dX1_place_1 : decode cX1_place 1 = .ok (.iload_n 1, 1) := dk_27 (dk_at dksX1_place_0 1 rfl rfl)
theorem dX1_place_2 : decode cX1_place 2 = .ok (.iload_n 2, 1) := dk_28 (dk_at dksX1_place_0 2 rfl rfl)
theorem dX1_place_3 : decode cX1_place 3 = .ok (.invokevirtual 143, 3) := dk_182 0 143 (dk_at dksX1_place_0 3 rfl rfl)
theorem dX1_place_6 : decode cX1_place 6 = .ok (.istore 4, 2) := dk_54 4 (dk_at dksX1_place_0 6 rfl rfl)
theorem dX1_place_8 : decode cX1_place 8 = .ok (.iload_n 3, 1) := dk_29 (dk_at dksX1_place_0 8 rfl rfl)
theorem dX1_place_9 : decode cX1_place 9 = .ok (.aload_n 0, 1) := dk_42 (dk_at dksX1_place_0 9 rfl rfl)
theorem dX1_place_10 : decode cX1_place 10 = .ok (.getfield 37, 3) := dk_180 0 37 (dk_at dksX1_place_0 10 rfl rfl)
theorem dX1_place_13 : decode cX1_place 13 = .ok (.getfield 83, 3) := dk_180 0 83 (dk_at dksX1_place_0 13 rfl rfl)
theorem dX1_place_16 : decode cX1_place 16 = .ok (.aload_n 0, 1) := dk_42 (dk_at dksX1_place_0 16 rfl rfl)
theorem dX1_place_17 : decode cX1_place 17 = .ok (.getfield 37, 3) := dk_180 0 37 (dk_at dksX1_place_0 17 rfl rfl)
theorem dX1_place_20 : decode cX1_place 20 = .ok (.getfield 58, 3) := dk_180 0 58 (dk_at dksX1_place_0 20 rfl rfl)
theorem dX1_place_23 : decode cX1_place 23 = .ok (.getfield 149, 3) := dk_180 0 149 (dk_at dksX1_place_1 0 rfl rfl)
theorem dX1_place_26 : decode cX1_place 26 = .ok (.iload 4, 2) := dk_21 4 (dk_at dksX1_place_1 3 rfl rfl)
theorem dX1_place_28 : decode cX1_place 28 = .ok (.iaload, 1) := dk_46 (dk_at dksX1_place_1 5 rfl rfl)
theorem dX1_place_29 : decode cX1_place 29 = .ok (.iaload, 1) := dk_46 (dk_at dksX1_place_1 6 rfl rfl)
theorem dX1_place_30 : decode cX1_place 30 = .ok (.invokestatic 72, 3) := dk_184 0 72 (dk_at dksX1_place_1 7 rfl rfl)
theorem dX1_place_33 : decode cX1_place 33 = .ok (.aload_n 0, 1) := dk_42 (dk_at dksX1_place_1 10 rfl rfl)
theorem dX1_place_34 : decode cX1_place 34 = .ok (.getfield 37, 3) := dk_180 0 37 (dk_at dksX1_place_1 11 rfl rfl)
theorem dX1_place_37 : decode cX1_place 37 = .ok (.invokevirtual 231, 3) := dk_182 0 231 (dk_at dksX1_place_1 14 rfl rfl)
theorem dX1_place_40 : decode cX1_place 40 = .ok (.astore 5, 2) := dk_58 5 (dk_at dksX1_place_1 17 rfl rfl)
theorem dX1_place_42 : decode cX1_place 42 = .ok (.aload 5, 2) := dk_25 5 (dk_at dksX1_place_1 19 rfl rfl)
theorem dX1_place_44 : decode cX1_place 44 = .ok (.iload 4, 2) := dk_21 4 (dk_at dksX1_place_1 21 rfl rfl)
theorem dX1_place_46 : decode cX1_place 46 = .ok (.iload_n 3, 1) := dk_29 (dk_at dksX1_place_1 23 rfl rfl)
theorem dX1_place_47 : decode cX1_place 47 = .ok (.invokevirtual 257, 3) := dk_182 1 1 (dk_at dksX1_place_2 0 rfl rfl)
theorem dX1_place_50 : decode cX1_place 50 = .ok (.aload_n 0, 1) := dk_42 (dk_at dksX1_place_2 3 rfl rfl)
theorem dX1_place_51 : decode cX1_place 51 = .ok (.aload 5, 2) := dk_25 5 (dk_at dksX1_place_2 4 rfl rfl)
theorem dX1_place_53 : decode cX1_place 53 = .ok (.invokevirtual 251, 3) := dk_182 0 251 (dk_at dksX1_place_2 6 rfl rfl)
theorem dX1_place_56 : decode cX1_place 56 = .ok (.ireturn, 1) := dk_172 (dk_at dksX1_place_2 9 rfl rfl)
abbrev cX1_setDuration : ByteArray := prog_1_method_41_code
def yX1_setDuration : MethodName := ⟨RX1, "setDuration", "(III)I"⟩
def dkwX1_setDuration_2 : List UInt8 := [29, 79, 25, 6, 42, 180, 0, 23, 182, 0, 127, 54, 7, 42, 25, 6, 182, 0, 131, 21, 5, 172]
abbrev dktX1_setDuration_2 : List UInt8 := dkwX1_setDuration_2 ++ []
def dkwX1_setDuration_1 : List UInt8 := [180, 0, 152, 21, 4, 46, 54, 5, 42, 180, 0, 37, 182, 0, 231, 58, 6, 25, 6, 180, 0, 152, 21, 4]
abbrev dktX1_setDuration_1 : List UInt8 := dkwX1_setDuration_1 ++ dktX1_setDuration_2
def dkwX1_setDuration_0 : List UInt8 := [42, 27, 28, 182, 0, 143, 54, 4, 29, 133, 10, 20, 1, 4, 184, 0, 45, 184, 0, 114, 42, 180, 0, 37]
abbrev dktX1_setDuration_0 : List UInt8 := dkwX1_setDuration_0 ++ dktX1_setDuration_1
theorem dksX1_setDuration_0 : cX1_setDuration.data.toList.drop 0 = dktX1_setDuration_0 := by decide +kernel
theorem dksX1_setDuration_1 : cX1_setDuration.data.toList.drop 24 = dktX1_setDuration_1 := dk_seg dksX1_setDuration_0 24 rfl rfl
theorem dksX1_setDuration_2 : cX1_setDuration.data.toList.drop 48 = dktX1_setDuration_2 := dk_seg dksX1_setDuration_1 24 rfl rfl
theorem dX1_setDuration_0 : decode cX1_setDuration 0 = .ok (.aload_n 0, 1) := dk_42 (dk_at dksX1_setDuration_0 0 rfl rfl)
theorem dX1_setDuration_1 : decode cX1_setDuration 1 = .ok (.iload_n 1, 1) := dk_27 (dk_at dksX1_setDuration_0 1 rfl rfl)
theorem dX1_setDuration_2 : decode cX1_setDuration 2 = .ok (.iload_n 2, 1) := dk_28 (dk_at dksX1_setDuration_0 2 rfl rfl)
theorem dX1_setDuration_3 : decode cX1_setDuration 3 = .ok (.invokevirtual 143, 3) := dk_182 0 143 (dk_at dksX1_setDuration_0 3 rfl rfl)
theorem dX1_setDuration_6 : decode cX1_setDuration 6 = .ok (.istore 4, 2) := dk_54 4 (dk_at dksX1_setDuration_0 6 rfl rfl)
theorem dX1_setDuration_8 : decode cX1_setDuration 8 = .ok (.iload_n 3, 1) := dk_29 (dk_at dksX1_setDuration_0 8 rfl rfl)
theorem dX1_setDuration_9 : decode cX1_setDuration 9 = .ok (.i2l, 1) := dk_133 (dk_at dksX1_setDuration_0 9 rfl rfl)
theorem dX1_setDuration_10 : decode cX1_setDuration 10 = .ok (.lconst 1, 1) := dk_10 (dk_at dksX1_setDuration_0 10 rfl rfl)
theorem dX1_setDuration_11 : decode cX1_setDuration 11 = .ok (.ldc2_w 260, 3) := dk_20 1 4 (dk_at dksX1_setDuration_0 11 rfl rfl)
theorem dX1_setDuration_14 : decode cX1_setDuration 14 = .ok (.invokestatic 45, 3) := dk_184 0 45 (dk_at dksX1_setDuration_0 14 rfl rfl)
theorem dX1_setDuration_17 : decode cX1_setDuration 17 = .ok (.invokestatic 114, 3) := dk_184 0 114 (dk_at dksX1_setDuration_0 17 rfl rfl)
theorem dX1_setDuration_20 : decode cX1_setDuration 20 = .ok (.aload_n 0, 1) := dk_42 (dk_at dksX1_setDuration_0 20 rfl rfl)
theorem dX1_setDuration_21 : decode cX1_setDuration 21 = .ok (.getfield 37, 3) := dk_180 0 37 (dk_at dksX1_setDuration_0 21 rfl rfl)
theorem dX1_setDuration_24 : decode cX1_setDuration 24 = .ok (.getfield 152, 3) := dk_180 0 152 (dk_at dksX1_setDuration_1 0 rfl rfl)
theorem dX1_setDuration_27 : decode cX1_setDuration 27 = .ok (.iload 4, 2) := dk_21 4 (dk_at dksX1_setDuration_1 3 rfl rfl)
theorem dX1_setDuration_29 : decode cX1_setDuration 29 = .ok (.iaload, 1) := dk_46 (dk_at dksX1_setDuration_1 5 rfl rfl)
theorem dX1_setDuration_30 : decode cX1_setDuration 30 = .ok (.istore 5, 2) := dk_54 5 (dk_at dksX1_setDuration_1 6 rfl rfl)
theorem dX1_setDuration_32 : decode cX1_setDuration 32 = .ok (.aload_n 0, 1) := dk_42 (dk_at dksX1_setDuration_1 8 rfl rfl)
theorem dX1_setDuration_33 : decode cX1_setDuration 33 = .ok (.getfield 37, 3) := dk_180 0 37 (dk_at dksX1_setDuration_1 9 rfl rfl)
theorem dX1_setDuration_36 : decode cX1_setDuration 36 = .ok (.invokevirtual 231, 3) := dk_182 0 231 (dk_at dksX1_setDuration_1 12 rfl rfl)
theorem dX1_setDuration_39 : decode cX1_setDuration 39 = .ok (.astore 6, 2) := dk_58 6 (dk_at dksX1_setDuration_1 15 rfl rfl)
theorem dX1_setDuration_41 : decode cX1_setDuration 41 = .ok (.aload 6, 2) := dk_25 6 (dk_at dksX1_setDuration_1 17 rfl rfl)
theorem dX1_setDuration_43 : decode cX1_setDuration 43 = .ok (.getfield 152, 3) := dk_180 0 152 (dk_at dksX1_setDuration_1 19 rfl rfl)
theorem dX1_setDuration_46 : decode cX1_setDuration 46 = .ok (.iload 4, 2) := dk_21 4 (dk_at dksX1_setDuration_1 22 rfl rfl)
theorem dX1_setDuration_48 : decode cX1_setDuration 48 = .ok (.iload_n 3, 1) := dk_29 (dk_at dksX1_setDuration_2 0 rfl rfl)
theorem dX1_setDuration_49 : decode cX1_setDuration 49 = .ok (.iastore, 1) := dk_79 (dk_at dksX1_setDuration_2 1 rfl rfl)
theorem dX1_setDuration_50 : decode cX1_setDuration 50 = .ok (.aload 6, 2) := dk_25 6 (dk_at dksX1_setDuration_2 2 rfl rfl)
theorem dX1_setDuration_52 : decode cX1_setDuration 52 = .ok (.aload_n 0, 1) := dk_42 (dk_at dksX1_setDuration_2 4 rfl rfl)
theorem dX1_setDuration_53 : decode cX1_setDuration 53 = .ok (.getfield 23, 3) := dk_180 0 23 (dk_at dksX1_setDuration_2 5 rfl rfl)
theorem dX1_setDuration_56 : decode cX1_setDuration 56 = .ok (.invokevirtual 127, 3) := dk_182 0 127 (dk_at dksX1_setDuration_2 8 rfl rfl)
theorem dX1_setDuration_59 : decode cX1_setDuration 59 = .ok (.istore 7, 2) := dk_54 7 (dk_at dksX1_setDuration_2 11 rfl rfl)
theorem dX1_setDuration_61 : decode cX1_setDuration 61 = .ok (.aload_n 0, 1) := dk_42 (dk_at dksX1_setDuration_2 13 rfl rfl)
theorem dX1_setDuration_62 : decode cX1_setDuration 62 = .ok (.aload 6, 2) := dk_25 6 (dk_at dksX1_setDuration_2 14 rfl rfl)
theorem dX1_setDuration_64 : decode cX1_setDuration 64 = .ok (.invokevirtual 131, 3) := dk_182 0 131 (dk_at dksX1_setDuration_2 16 rfl rfl)
theorem dX1_setDuration_67 : decode cX1_setDuration 67 = .ok (.iload 5, 2) := dk_21 5 (dk_at dksX1_setDuration_2 19 rfl rfl)
theorem dX1_setDuration_69 : decode cX1_setDuration 69 = .ok (.ireturn, 1) := dk_172 (dk_at dksX1_setDuration_2 21 rfl rfl)
theorem q95 : (Jvm.Cond.initialized "BlockingShop") ∈ lw_all := lw_g (lw_at lw_m1 1 rfl) rfl
theorem q158 : (Jvm.Cond.instantiable "BlockingShop" (6 : Nat)) ∈ lw_all := lw_g (lw_at lw_m1 64 rfl) rfl
theorem q160 : (Jvm.Cond.instanceMethod ({ cls := "BlockingShop", name := "<init>", desc := "()V" } : Jvm.MethodName)) ∈ lw_all := lw_g (lw_at lw_m1 66 rfl) rfl
theorem q161 : (Jvm.Cond.code ({ cls := "BlockingShop", name := "<init>", desc := "()V" } : Jvm.MethodName) prog_1_method_2_code (1 : Nat) (Option.none : Option Jvm.ClassFile.FieldType)) ∈ lw_all := lw_g (lw_at lw_m1 67 rfl) rfl
theorem q162 : (Jvm.Cond.methodLink "BlockingShop" (1 : Nat) ({ cls := "java/lang/Object", name := "<init>", desc := "()V" } : Jvm.MethodName)) ∈ lw_all := lw_g (lw_at lw_m1 68 rfl) rfl
theorem q165 : (Jvm.Cond.classLink "BlockingShop" (13 : Nat) "java/util/ArrayDeque") ∈ lw_all := lw_g (lw_at lw_m1 71 rfl) rfl
theorem q167 : (Jvm.Cond.methodLink "BlockingShop" (15 : Nat) ({ cls := "java/util/ArrayDeque", name := "<init>", desc := "()V" } : Jvm.MethodName)) ∈ lw_all := lw_g (lw_at lw_m1 73 rfl) rfl
theorem q187 : (Jvm.Cond.classLink "BlockingShop" (20 : Nat) "BlockingShop$Graph") ∈ lw_all := lw_g (lw_at lw_m1 93 rfl) rfl
theorem q189 : (Jvm.Cond.methodLinkNest "BlockingShop" (22 : Nat) ({ cls := "BlockingShop$Graph", name := "<init>", desc := "()V" } : Jvm.MethodName) "BlockingShop") ∈ lw_tbl := lw_at lw_m1 95 rfl
theorem q223 : (Jvm.Cond.classLink "BlockingShop" (27 : Nat) "BlockingShop$Plan") ∈ lw_all := lw_g (lw_at lw_m1 129 rfl) rfl
theorem q225 : (Jvm.Cond.classLink "BlockingShop" (29 : Nat) "BlockingShop$Layout") ∈ lw_all := lw_g (lw_at lw_m1 131 rfl) rfl
theorem q227 : (Jvm.Cond.methodLink "BlockingShop" (31 : Nat) ({ cls := "BlockingShop$Layout", name := "<init>", desc := "(IZ)V" } : Jvm.MethodName)) ∈ lw_all := lw_g (lw_at lw_m1 133 rfl) rfl
theorem q324 : (Jvm.Cond.fieldLinkNest "BlockingShop" (76 : Nat) "BlockingShop$Layout" "machines" "I" "BlockingShop") ∈ lw_tbl := lw_at lw_m1 230 rfl
theorem q332 : (Jvm.Cond.fieldLinkNest "BlockingShop" (62 : Nat) "BlockingShop$Layout" "jobs" "Ljava/util/List;" "BlockingShop") ∈ lw_tbl := lw_at lw_m1 238 rfl
theorem q338 : (Jvm.Cond.fieldLinkNest "BlockingShop" (149 : Nat) "BlockingShop$Layout" "machineOf" "[I" "BlockingShop") ∈ lw_tbl := lw_at lw_m2 4 rfl
theorem q358 : (Jvm.Cond.methodLink "BlockingShop" (34 : Nat) ({ cls := "BlockingShop$Plan", name := "<init>", desc := "(LBlockingShop$Layout;)V" } : Jvm.MethodName)) ∈ lw_all := lw_g (lw_at lw_m2 24 rfl) rfl
theorem q366 : (Jvm.Cond.fieldLinkNest "BlockingShop" (58 : Nat) "BlockingShop$Plan" "layout" "LBlockingShop$Layout;" "BlockingShop") ∈ lw_tbl := lw_at lw_m2 32 rfl
theorem q370 : (Jvm.Cond.fieldLinkNest "BlockingShop" (152 : Nat) "BlockingShop$Plan" "durations" "[I" "BlockingShop") ∈ lw_tbl := lw_at lw_m2 36 rfl
theorem q373 : (Jvm.Cond.fieldLinkNest "BlockingShop" (83 : Nat) "BlockingShop$Plan" "counts" "[I" "BlockingShop") ∈ lw_tbl := lw_at lw_m2 39 rfl
theorem q375 : (Jvm.Cond.fieldLinkNest "BlockingShop" (166 : Nat) "BlockingShop$Plan" "starts" "[I" "BlockingShop") ∈ lw_tbl := lw_at lw_m2 41 rfl
theorem q378 : (Jvm.Cond.fieldLinkNest "BlockingShop" (159 : Nat) "BlockingShop$Plan" "orders" "[[I" "BlockingShop") ∈ lw_tbl := lw_at lw_m2 44 rfl
theorem q390 : (Jvm.Cond.fieldLink "BlockingShop" (9 : Nat) "BlockingShop" "buffer" "[B") ∈ lw_all := lw_g (lw_at lw_m2 56 rfl) rfl
theorem q392 : (Jvm.Cond.fieldLink "BlockingShop" (16 : Nat) "BlockingShop" "history" "Ljava/util/ArrayDeque;") ∈ lw_all := lw_g (lw_at lw_m2 58 rfl) rfl
theorem q393 : (Jvm.Cond.fieldLink "BlockingShop" (23 : Nat) "BlockingShop" "graph" "LBlockingShop$Graph;") ∈ lw_all := lw_g (lw_at lw_m2 59 rfl) rfl
theorem q394 : (Jvm.Cond.fieldLink "BlockingShop" (37 : Nat) "BlockingShop" "current" "LBlockingShop$Plan;") ∈ lw_all := lw_g (lw_at lw_m2 60 rfl) rfl
theorem q395 : (Jvm.Cond.fieldLink "BlockingShop" (108 : Nat) "BlockingShop" "bufferLength" "I") ∈ lw_all := lw_g (lw_at lw_m2 61 rfl) rfl
theorem q396 : (Jvm.Cond.fieldLink "BlockingShop" (41 : Nat) "BlockingShop" "errorOffset" "I") ∈ lw_all := lw_g (lw_at lw_m2 62 rfl) rfl
theorem q397 : (Jvm.Cond.laysFinal "BlockingShop" "BlockingShop" "buffer" "[B") ∈ lw_all := lw_g (lw_at lw_m2 63 rfl) rfl
theorem q398 : (Jvm.Cond.soleField "BlockingShop" "buffer") ∈ lw_all := lw_g (lw_at lw_m2 64 rfl) rfl
theorem q399 : (Jvm.Cond.laysFinal "BlockingShop" "BlockingShop" "history" "Ljava/util/ArrayDeque;") ∈ lw_all := lw_g (lw_at lw_m2 65 rfl) rfl
theorem q400 : (Jvm.Cond.soleField "BlockingShop" "history") ∈ lw_all := lw_g (lw_at lw_m2 66 rfl) rfl
theorem q401 : (Jvm.Cond.laysFinal "BlockingShop" "BlockingShop" "graph" "LBlockingShop$Graph;") ∈ lw_all := lw_g (lw_at lw_m2 67 rfl) rfl
theorem q402 : (Jvm.Cond.soleField "BlockingShop" "graph") ∈ lw_all := lw_g (lw_at lw_m2 68 rfl) rfl
theorem q403 : (Jvm.Cond.lays "BlockingShop" "BlockingShop" "current" "LBlockingShop$Plan;") ∈ lw_all := lw_g (lw_at lw_m2 69 rfl) rfl
theorem q404 : (Jvm.Cond.soleField "BlockingShop" "current") ∈ lw_all := lw_g (lw_at lw_m2 70 rfl) rfl
theorem q405 : (Jvm.Cond.lays "BlockingShop" "BlockingShop" "bufferLength" "I") ∈ lw_all := lw_g (lw_at lw_m2 71 rfl) rfl
theorem q406 : (Jvm.Cond.soleField "BlockingShop" "bufferLength") ∈ lw_all := lw_g (lw_at lw_m2 72 rfl) rfl
theorem q407 : (Jvm.Cond.lays "BlockingShop" "BlockingShop" "errorOffset" "I") ∈ lw_all := lw_g (lw_at lw_m2 73 rfl) rfl
theorem q408 : (Jvm.Cond.soleField "BlockingShop" "errorOffset") ∈ lw_all := lw_g (lw_at lw_m2 74 rfl) rfl
theorem q409 : (Jvm.Cond.superclass "BlockingShop" "java/lang/Object") ∈ lw_all := lw_g (lw_at lw_m2 75 rfl) rfl
theorem q411 : (Jvm.Cond.instanceMethod ({ cls := "BlockingShop", name := "append", desc := "(IIIII)I" } : Jvm.MethodName)) ∈ lw_all := lw_g (lw_at lw_m2 77 rfl) rfl
theorem q412 : (Jvm.Cond.selects "BlockingShop" ({ cls := "BlockingShop", name := "append", desc := "(IIIII)I" } : Jvm.MethodName) ({ cls := "BlockingShop", name := "append", desc := "(IIIII)I" } : Jvm.MethodName)) ∈ lw_all := lw_g (lw_at lw_m2 78 rfl) rfl
theorem q413 : (Jvm.Cond.code ({ cls := "BlockingShop", name := "append", desc := "(IIIII)I" } : Jvm.MethodName) prog_1_method_13_code (6 : Nat) (Option.some Jvm.ClassFile.FieldType.int)) ∈ lw_all := lw_g (lw_at lw_m2 79 rfl) rfl
theorem q414 : (Jvm.Cond.methodLink "BlockingShop" (111 : Nat) ({ cls := "BlockingShop", name := "put", desc := "(I)V" } : Jvm.MethodName)) ∈ lw_all := lw_g (lw_at lw_m2 80 rfl) rfl
theorem q415 : (Jvm.Cond.privateMethod ({ cls := "BlockingShop", name := "put", desc := "(I)V" } : Jvm.MethodName)) ∈ lw_tbl := lw_at lw_m2 81 rfl
theorem q416 : (Jvm.Cond.instanceMethod ({ cls := "BlockingShop", name := "put", desc := "(I)V" } : Jvm.MethodName)) ∈ lw_all := lw_g (lw_at lw_m2 82 rfl) rfl
theorem q417 : (Jvm.Cond.code ({ cls := "BlockingShop", name := "put", desc := "(I)V" } : Jvm.MethodName) prog_1_method_12_code (3 : Nat) (Option.none : Option Jvm.ClassFile.FieldType)) ∈ lw_all := lw_g (lw_at lw_m2 83 rfl) rfl
theorem q419 : (Jvm.Cond.instanceMethod ({ cls := "BlockingShop", name := "errorOffset", desc := "()I" } : Jvm.MethodName)) ∈ lw_all := lw_g (lw_at lw_m2 85 rfl) rfl
theorem q420 : (Jvm.Cond.selects "BlockingShop" ({ cls := "BlockingShop", name := "errorOffset", desc := "()I" } : Jvm.MethodName) ({ cls := "BlockingShop", name := "errorOffset", desc := "()I" } : Jvm.MethodName)) ∈ lw_all := lw_g (lw_at lw_m2 86 rfl) rfl
theorem q421 : (Jvm.Cond.code ({ cls := "BlockingShop", name := "errorOffset", desc := "()I" } : Jvm.MethodName) prog_1_method_15_code (1 : Nat) (Option.some Jvm.ClassFile.FieldType.int)) ∈ lw_all := lw_g (lw_at lw_m2 87 rfl) rfl
theorem q423 : (Jvm.Cond.instanceMethod ({ cls := "BlockingShop", name := "machineCount", desc := "()I" } : Jvm.MethodName)) ∈ lw_all := lw_g (lw_at lw_m2 89 rfl) rfl
theorem q424 : (Jvm.Cond.selects "BlockingShop" ({ cls := "BlockingShop", name := "machineCount", desc := "()I" } : Jvm.MethodName) ({ cls := "BlockingShop", name := "machineCount", desc := "()I" } : Jvm.MethodName)) ∈ lw_all := lw_g (lw_at lw_m2 90 rfl) rfl
theorem q425 : (Jvm.Cond.code ({ cls := "BlockingShop", name := "machineCount", desc := "()I" } : Jvm.MethodName) prog_1_method_16_code (1 : Nat) (Option.some Jvm.ClassFile.FieldType.int)) ∈ lw_all := lw_g (lw_at lw_m2 91 rfl) rfl
theorem q427 : (Jvm.Cond.instanceMethod ({ cls := "BlockingShop", name := "jobCount", desc := "()I" } : Jvm.MethodName)) ∈ lw_all := lw_g (lw_at lw_m2 93 rfl) rfl
theorem q428 : (Jvm.Cond.selects "BlockingShop" ({ cls := "BlockingShop", name := "jobCount", desc := "()I" } : Jvm.MethodName) ({ cls := "BlockingShop", name := "jobCount", desc := "()I" } : Jvm.MethodName)) ∈ lw_all := lw_g (lw_at lw_m2 94 rfl) rfl
theorem q429 : (Jvm.Cond.code ({ cls := "BlockingShop", name := "jobCount", desc := "()I" } : Jvm.MethodName) prog_1_method_17_code (1 : Nat) (Option.some Jvm.ClassFile.FieldType.int)) ∈ lw_all := lw_g (lw_at lw_m2 95 rfl) rfl
theorem q430 : (Jvm.Cond.interfaceEntry "BlockingShop" (66 : Nat)) ∈ lw_tbl := lw_at lw_m2 96 rfl
theorem q431 : (Jvm.Cond.methodLink "BlockingShop" (66 : Nat) ({ cls := "java/util/List", name := "size", desc := "()I" } : Jvm.MethodName)) ∈ lw_all := lw_g (lw_at lw_m2 97 rfl) rfl
theorem q461 : (Jvm.Cond.instanceMethod ({ cls := "BlockingShop", name := "makespan", desc := "()I" } : Jvm.MethodName)) ∈ lw_all := lw_g (lw_at lw_m2 127 rfl) rfl
theorem q462 : (Jvm.Cond.selects "BlockingShop" ({ cls := "BlockingShop", name := "makespan", desc := "()I" } : Jvm.MethodName) ({ cls := "BlockingShop", name := "makespan", desc := "()I" } : Jvm.MethodName)) ∈ lw_all := lw_g (lw_at lw_m2 128 rfl) rfl
theorem q463 : (Jvm.Cond.code ({ cls := "BlockingShop", name := "makespan", desc := "()I" } : Jvm.MethodName) prog_1_method_25_code (1 : Nat) (Option.some Jvm.ClassFile.FieldType.int)) ∈ lw_all := lw_g (lw_at lw_m2 129 rfl) rfl
theorem q464 : (Jvm.Cond.methodLink "BlockingShop" (175 : Nat) ({ cls := "BlockingShop$Plan", name := "makespan", desc := "()I" } : Jvm.MethodName)) ∈ lw_all := lw_g (lw_at lw_m2 130 rfl) rfl
theorem q882 : (Jvm.Cond.instanceMethod ({ cls := "BlockingShop", name := "planCost", desc := "()I" } : Jvm.MethodName)) ∈ lw_all := lw_g (lw_at lw_m4 68 rfl) rfl
theorem q883 : (Jvm.Cond.selects "BlockingShop" ({ cls := "BlockingShop", name := "planCost", desc := "()I" } : Jvm.MethodName) ({ cls := "BlockingShop", name := "planCost", desc := "()I" } : Jvm.MethodName)) ∈ lw_all := lw_g (lw_at lw_m4 69 rfl) rfl
theorem q884 : (Jvm.Cond.code ({ cls := "BlockingShop", name := "planCost", desc := "()I" } : Jvm.MethodName) prog_1_method_27_code (1 : Nat) (Option.some Jvm.ClassFile.FieldType.int)) ∈ lw_all := lw_g (lw_at lw_m4 70 rfl) rfl
theorem q885 : (Jvm.Cond.methodLink "BlockingShop" (181 : Nat) ({ cls := "BlockingShop$Plan", name := "cost", desc := "()I" } : Jvm.MethodName)) ∈ lw_all := lw_g (lw_at lw_m4 71 rfl) rfl
theorem q987 : (Jvm.Cond.instanceMethod ({ cls := "BlockingShop", name := "criticalLength", desc := "()I" } : Jvm.MethodName)) ∈ lw_all := lw_g (lw_at lw_m4 173 rfl) rfl
theorem q988 : (Jvm.Cond.selects "BlockingShop" ({ cls := "BlockingShop", name := "criticalLength", desc := "()I" } : Jvm.MethodName) ({ cls := "BlockingShop", name := "criticalLength", desc := "()I" } : Jvm.MethodName)) ∈ lw_all := lw_g (lw_at lw_m4 174 rfl) rfl
theorem q989 : (Jvm.Cond.code ({ cls := "BlockingShop", name := "criticalLength", desc := "()I" } : Jvm.MethodName) prog_1_method_29_code (1 : Nat) (Option.some Jvm.ClassFile.FieldType.int)) ∈ lw_all := lw_g (lw_at lw_m4 175 rfl) rfl
theorem q990 : (Jvm.Cond.methodLink "BlockingShop" (187 : Nat) ({ cls := "BlockingShop$Plan", name := "critical", desc := "()Ljava/util/LinkedList;" } : Jvm.MethodName)) ∈ lw_all := lw_g (lw_at lw_m4 176 rfl) rfl
theorem q1481 : (Jvm.Cond.selects "BlockingShop" ({ cls := "java/lang/Object", name := "getClass", desc := "()Ljava/lang/Class;" } : Jvm.MethodName) ({ cls := "java/lang/Object", name := "getClass", desc := "()Ljava/lang/Class;" } : Jvm.MethodName)) ∈ lw_all := lw_g (lw_at lw_m6 187 rfl) rfl
theorem q1610 : (Jvm.Cond.methodLink "BlockingShop" (191 : Nat) ({ cls := "java/util/LinkedList", name := "size", desc := "()I" } : Jvm.MethodName)) ∈ lw_all := lw_g (lw_at lw_m7 76 rfl) rfl
theorem q1612 : (Jvm.Cond.instanceMethod ({ cls := "BlockingShop", name := "blockCount", desc := "()I" } : Jvm.MethodName)) ∈ lw_all := lw_g (lw_at lw_m7 78 rfl) rfl
theorem q1613 : (Jvm.Cond.selects "BlockingShop" ({ cls := "BlockingShop", name := "blockCount", desc := "()I" } : Jvm.MethodName) ({ cls := "BlockingShop", name := "blockCount", desc := "()I" } : Jvm.MethodName)) ∈ lw_all := lw_g (lw_at lw_m7 79 rfl) rfl
theorem q1614 : (Jvm.Cond.code ({ cls := "BlockingShop", name := "blockCount", desc := "()I" } : Jvm.MethodName) prog_1_method_31_code (1 : Nat) (Option.some Jvm.ClassFile.FieldType.int)) ∈ lw_all := lw_g (lw_at lw_m7 80 rfl) rfl
theorem q1615 : (Jvm.Cond.methodLink "BlockingShop" (203 : Nat) ({ cls := "BlockingShop$Plan", name := "blocks", desc := "()Ljava/util/List;" } : Jvm.MethodName)) ∈ lw_all := lw_g (lw_at lw_m7 81 rfl) rfl
theorem q1693 : (Jvm.Cond.instanceMethod ({ cls := "BlockingShop", name := "longestBlock", desc := "()I" } : Jvm.MethodName)) ∈ lw_all := lw_g (lw_at lw_m7 159 rfl) rfl
theorem q1694 : (Jvm.Cond.selects "BlockingShop" ({ cls := "BlockingShop", name := "longestBlock", desc := "()I" } : Jvm.MethodName) ({ cls := "BlockingShop", name := "longestBlock", desc := "()I" } : Jvm.MethodName)) ∈ lw_all := lw_g (lw_at lw_m7 160 rfl) rfl
theorem q1695 : (Jvm.Cond.code ({ cls := "BlockingShop", name := "longestBlock", desc := "()I" } : Jvm.MethodName) prog_1_method_32_code (4 : Nat) (Option.some Jvm.ClassFile.FieldType.int)) ∈ lw_all := lw_g (lw_at lw_m7 161 rfl) rfl
theorem q1696 : (Jvm.Cond.interfaceEntry "BlockingShop" (207 : Nat)) ∈ lw_tbl := lw_at lw_m7 162 rfl
theorem q1697 : (Jvm.Cond.methodLink "BlockingShop" (207 : Nat) ({ cls := "java/util/List", name := "iterator", desc := "()Ljava/util/Iterator;" } : Jvm.MethodName)) ∈ lw_all := lw_g (lw_at lw_m7 163 rfl) rfl
theorem q1835 : (Jvm.Cond.interfaceEntry "BlockingShop" (211 : Nat)) ∈ lw_tbl := lw_at lw_m8 61 rfl
theorem q1836 : (Jvm.Cond.methodLink "BlockingShop" (211 : Nat) ({ cls := "java/util/Iterator", name := "hasNext", desc := "()Z" } : Jvm.MethodName)) ∈ lw_all := lw_g (lw_at lw_m8 62 rfl) rfl
theorem q1837 : (Jvm.Cond.interfaceEntry "BlockingShop" (217 : Nat)) ∈ lw_tbl := lw_at lw_m8 63 rfl
theorem q1838 : (Jvm.Cond.methodLink "BlockingShop" (217 : Nat) ({ cls := "java/util/Iterator", name := "next", desc := "()Ljava/lang/Object;" } : Jvm.MethodName)) ∈ lw_all := lw_g (lw_at lw_m8 64 rfl) rfl
theorem q1839 : (Jvm.Cond.classLink "BlockingShop" (198 : Nat) "java/lang/Integer") ∈ lw_all := lw_g (lw_at lw_m8 65 rfl) rfl
theorem q1840 : (Jvm.Cond.methodLink "BlockingShop" (200 : Nat) ({ cls := "java/lang/Integer", name := "intValue", desc := "()I" } : Jvm.MethodName)) ∈ lw_all := lw_g (lw_at lw_m8 66 rfl) rfl
theorem q1841 : (Jvm.Cond.methodLink "BlockingShop" (220 : Nat) ({ cls := "java/lang/Math", name := "max", desc := "(II)I" } : Jvm.MethodName)) ∈ lw_all := lw_g (lw_at lw_m8 67 rfl) rfl
theorem q1843 : (Jvm.Cond.instanceMethod ({ cls := "BlockingShop", name := "bestSwap", desc := "()I" } : Jvm.MethodName)) ∈ lw_all := lw_g (lw_at lw_m8 69 rfl) rfl
theorem q1844 : (Jvm.Cond.selects "BlockingShop" ({ cls := "BlockingShop", name := "bestSwap", desc := "()I" } : Jvm.MethodName) ({ cls := "BlockingShop", name := "bestSwap", desc := "()I" } : Jvm.MethodName)) ∈ lw_all := lw_g (lw_at lw_m8 70 rfl) rfl
theorem q1845 : (Jvm.Cond.code ({ cls := "BlockingShop", name := "bestSwap", desc := "()I" } : Jvm.MethodName) prog_1_method_36_code (1 : Nat) (Option.some Jvm.ClassFile.FieldType.int)) ∈ lw_all := lw_g (lw_at lw_m8 71 rfl) rfl
theorem q1846 : (Jvm.Cond.methodLink "BlockingShop" (244 : Nat) ({ cls := "BlockingShop", name := "bestOf", desc := "(LBlockingShop$Plan;LBlockingShop$Plan;LBlockingShop$Plan;)I" } : Jvm.MethodName)) ∈ lw_all := lw_g (lw_at lw_m8 72 rfl) rfl
theorem q1847 : (Jvm.Cond.privateMethod ({ cls := "BlockingShop", name := "bestOf", desc := "(LBlockingShop$Plan;LBlockingShop$Plan;LBlockingShop$Plan;)I" } : Jvm.MethodName)) ∈ lw_tbl := lw_at lw_m8 73 rfl
theorem q1848 : (Jvm.Cond.instanceMethod ({ cls := "BlockingShop", name := "bestOf", desc := "(LBlockingShop$Plan;LBlockingShop$Plan;LBlockingShop$Plan;)I" } : Jvm.MethodName)) ∈ lw_all := lw_g (lw_at lw_m8 74 rfl) rfl
theorem q1849 : (Jvm.Cond.code ({ cls := "BlockingShop", name := "bestOf", desc := "(LBlockingShop$Plan;LBlockingShop$Plan;LBlockingShop$Plan;)I" } : Jvm.MethodName) prog_1_method_35_code (7 : Nat) (Option.some Jvm.ClassFile.FieldType.int)) ∈ lw_all := lw_g (lw_at lw_m8 75 rfl) rfl
theorem q1850 : (Jvm.Cond.methodLink "BlockingShop" (237 : Nat) ({ cls := "BlockingShop$Plan", name := "become", desc := "(LBlockingShop$Plan;)V" } : Jvm.MethodName)) ∈ lw_all := lw_g (lw_at lw_m8 76 rfl) rfl
theorem q1855 : (Jvm.Cond.methodLink "BlockingShop" (234 : Nat) ({ cls := "BlockingShop$Plan", name := "swap", desc := "(II)V" } : Jvm.MethodName)) ∈ lw_all := lw_g (lw_at lw_m8 81 rfl) rfl
theorem q1859 : (Jvm.Cond.methodLink "BlockingShop" (127 : Nat) ({ cls := "BlockingShop$Plan", name := "times", desc := "(LBlockingShop$Graph;)Z" } : Jvm.MethodName)) ∈ lw_all := lw_g (lw_at lw_m8 85 rfl) rfl
theorem q1892 : (Jvm.Cond.methodLink "BlockingShop" (240 : Nat) ({ cls := "BlockingShop$Plan", name := "isBetter", desc := "(LBlockingShop$Plan;)Z" } : Jvm.MethodName)) ∈ lw_all := lw_g (lw_at lw_m8 118 rfl) rfl
theorem q1899 : (Jvm.Cond.instanceMethod ({ cls := "BlockingShop", name := "restart", desc := "()I" } : Jvm.MethodName)) ∈ lw_all := lw_g (lw_at lw_m8 125 rfl) rfl
theorem q1900 : (Jvm.Cond.selects "BlockingShop" ({ cls := "BlockingShop", name := "restart", desc := "()I" } : Jvm.MethodName) ({ cls := "BlockingShop", name := "restart", desc := "()I" } : Jvm.MethodName)) ∈ lw_all := lw_g (lw_at lw_m8 126 rfl) rfl
theorem q1901 : (Jvm.Cond.code ({ cls := "BlockingShop", name := "restart", desc := "()I" } : Jvm.MethodName) prog_1_method_42_code (3 : Nat) (Option.some Jvm.ClassFile.FieldType.int)) ∈ lw_all := lw_g (lw_at lw_m8 127 rfl) rfl
theorem q1902 : (Jvm.Cond.methodLink "BlockingShop" (231 : Nat) ({ cls := "BlockingShop$Plan", name := "copy", desc := "()LBlockingShop$Plan;" } : Jvm.MethodName)) ∈ lw_all := lw_g (lw_at lw_m8 128 rfl) rfl
theorem q1909 : (Jvm.Cond.methodLink "BlockingShop" (262 : Nat) ({ cls := "BlockingShop$Plan", name := "first", desc := "()V" } : Jvm.MethodName)) ∈ lw_all := lw_g (lw_at lw_m8 135 rfl) rfl
theorem q1914 : (Jvm.Cond.methodLink "BlockingShop" (131 : Nat) ({ cls := "BlockingShop", name := "replace", desc := "(LBlockingShop$Plan;)V" } : Jvm.MethodName)) ∈ lw_all := lw_g (lw_at lw_m8 140 rfl) rfl
theorem q1915 : (Jvm.Cond.privateMethod ({ cls := "BlockingShop", name := "replace", desc := "(LBlockingShop$Plan;)V" } : Jvm.MethodName)) ∈ lw_tbl := lw_at lw_m8 141 rfl
theorem q1916 : (Jvm.Cond.instanceMethod ({ cls := "BlockingShop", name := "replace", desc := "(LBlockingShop$Plan;)V" } : Jvm.MethodName)) ∈ lw_all := lw_g (lw_at lw_m8 142 rfl) rfl
theorem q1917 : (Jvm.Cond.code ({ cls := "BlockingShop", name := "replace", desc := "(LBlockingShop$Plan;)V" } : Jvm.MethodName) prog_1_method_11_code (2 : Nat) (Option.none : Option Jvm.ClassFile.FieldType)) ∈ lw_all := lw_g (lw_at lw_m8 143 rfl) rfl
theorem q1918 : (Jvm.Cond.methodLink "BlockingShop" (99 : Nat) ({ cls := "java/util/ArrayDeque", name := "size", desc := "()I" } : Jvm.MethodName)) ∈ lw_all := lw_g (lw_at lw_m8 144 rfl) rfl
theorem q1925 : (Jvm.Cond.methodLink "BlockingShop" (100 : Nat) ({ cls := "java/util/ArrayDeque", name := "removeFirst", desc := "()Ljava/lang/Object;" } : Jvm.MethodName)) ∈ lw_all := lw_g (lw_at lw_m8 151 rfl) rfl
theorem q1941 : (Jvm.Cond.methodLink "BlockingShop" (104 : Nat) ({ cls := "java/util/ArrayDeque", name := "addLast", desc := "(Ljava/lang/Object;)V" } : Jvm.MethodName)) ∈ lw_all := lw_g (lw_at lw_m8 167 rfl) rfl
theorem q1974 : (Jvm.Cond.instanceMethod ({ cls := "BlockingShop", name := "undo", desc := "()I" } : Jvm.MethodName)) ∈ lw_all := lw_g (lw_at lw_m8 200 rfl) rfl
theorem q1975 : (Jvm.Cond.selects "BlockingShop" ({ cls := "BlockingShop", name := "undo", desc := "()I" } : Jvm.MethodName) ({ cls := "BlockingShop", name := "undo", desc := "()I" } : Jvm.MethodName)) ∈ lw_all := lw_g (lw_at lw_m8 201 rfl) rfl
theorem q1976 : (Jvm.Cond.code ({ cls := "BlockingShop", name := "undo", desc := "()I" } : Jvm.MethodName) prog_1_method_43_code (1 : Nat) (Option.some Jvm.ClassFile.FieldType.int)) ∈ lw_all := lw_g (lw_at lw_m8 202 rfl) rfl
theorem q1977 : (Jvm.Cond.methodLink "BlockingShop" (265 : Nat) ({ cls := "java/util/ArrayDeque", name := "isEmpty", desc := "()Z" } : Jvm.MethodName)) ∈ lw_all := lw_g (lw_at lw_m8 203 rfl) rfl
theorem q1981 : (Jvm.Cond.methodLink "BlockingShop" (268 : Nat) ({ cls := "java/util/ArrayDeque", name := "removeLast", desc := "()Ljava/lang/Object;" } : Jvm.MethodName)) ∈ lw_all := lw_g (lw_at lw_m8 207 rfl) rfl
theorem q1993 : (Jvm.Cond.instanceMethod ({ cls := "BlockingShop", name := "checksum", desc := "()J" } : Jvm.MethodName)) ∈ lw_all := lw_g (lw_at lw_m8 219 rfl) rfl
theorem q1994 : (Jvm.Cond.selects "BlockingShop" ({ cls := "BlockingShop", name := "checksum", desc := "()J" } : Jvm.MethodName) ({ cls := "BlockingShop", name := "checksum", desc := "()J" } : Jvm.MethodName)) ∈ lw_all := lw_g (lw_at lw_m8 220 rfl) rfl
theorem q1995 : (Jvm.Cond.code ({ cls := "BlockingShop", name := "checksum", desc := "()J" } : Jvm.MethodName) prog_1_method_45_code (5 : Nat) (Option.some Jvm.ClassFile.FieldType.long)) ∈ lw_all := lw_g (lw_at lw_m8 221 rfl) rfl
theorem q1996 : (Jvm.Cond.methodLink "BlockingShop" (273 : Nat) ({ cls := "BlockingShop", name := "hash", desc := "(JJ)J" } : Jvm.MethodName)) ∈ lw_all := lw_g (lw_at lw_m8 222 rfl) rfl
theorem q1997 : (Jvm.Cond.static ({ cls := "BlockingShop", name := "hash", desc := "(JJ)J" } : Jvm.MethodName)) ∈ lw_all := lw_g (lw_at lw_m8 223 rfl) rfl
theorem q1998 : (Jvm.Cond.code ({ cls := "BlockingShop", name := "hash", desc := "(JJ)J" } : Jvm.MethodName) prog_1_method_44_code (4 : Nat) (Option.some Jvm.ClassFile.FieldType.long)) ∈ lw_all := lw_g (lw_at lw_m8 224 rfl) rfl
theorem q1999 : (Jvm.Cond.constantLong "BlockingShop" (271 : Nat) (31 : Int64)) ∈ lw_all := lw_g (lw_at lw_m8 225 rfl) rfl
theorem q2000 : (Jvm.Cond.methodLink "BlockingShop" (163 : Nat) ({ cls := "BlockingShop", name := "shown", desc := "(I)I" } : Jvm.MethodName)) ∈ lw_all := lw_g (lw_at lw_m8 226 rfl) rfl
theorem q2001 : (Jvm.Cond.static ({ cls := "BlockingShop", name := "shown", desc := "(I)I" } : Jvm.MethodName)) ∈ lw_all := lw_g (lw_at lw_m8 227 rfl) rfl
theorem q2002 : (Jvm.Cond.code ({ cls := "BlockingShop", name := "shown", desc := "(I)I" } : Jvm.MethodName) prog_1_method_10_code (1 : Nat) (Option.some Jvm.ClassFile.FieldType.int)) ∈ lw_all := lw_g (lw_at lw_m8 228 rfl) rfl
theorem q2003 : (Jvm.Cond.methodLink "BlockingShop" (277 : Nat) ({ cls := "BlockingShop$Layout", name := "exists", desc := "(I)Z" } : Jvm.MethodName)) ∈ lw_all := lw_g (lw_at lw_m8 229 rfl) rfl
theorem q2009 : (Jvm.Cond.instanceMethod ({ cls := "BlockingShop", name := "load", desc := "(I)I" } : Jvm.MethodName)) ∈ lw_all := lw_g (lw_at lw_m8 235 rfl) rfl
theorem q2010 : (Jvm.Cond.selects "BlockingShop" ({ cls := "BlockingShop", name := "load", desc := "(I)I" } : Jvm.MethodName) ({ cls := "BlockingShop", name := "load", desc := "(I)I" } : Jvm.MethodName)) ∈ lw_all := lw_g (lw_at lw_m8 236 rfl) rfl
theorem q2011 : (Jvm.Cond.codeWith ({ cls := "BlockingShop", name := "load", desc := "(I)I" } : Jvm.MethodName) prog_1_method_14_code (4 : Nat) (Option.some Jvm.ClassFile.FieldType.int) [((24 : Nat), (66 : Nat), (67 : Nat), (135 : Nat))]) ∈ lw_all := lw_g (lw_at lw_m8 237 rfl) rfl
theorem q2012 : (Jvm.Cond.classLink "BlockingShop" (135 : Nat) "BlockingShop$SetupException") ∈ lw_all := lw_g (lw_at lw_m8 238 rfl) rfl
theorem q2013 : (Jvm.Cond.methodLink "BlockingShop" (45 : Nat) ({ cls := "BlockingShop", name := "isBetween", desc := "(JJJ)Z" } : Jvm.MethodName)) ∈ lw_all := lw_g (lw_at lw_m8 239 rfl) rfl
theorem q2014 : (Jvm.Cond.static ({ cls := "BlockingShop", name := "isBetween", desc := "(JJJ)Z" } : Jvm.MethodName)) ∈ lw_all := lw_g (lw_at lw_m9 0 rfl) rfl
theorem q2015 : (Jvm.Cond.code ({ cls := "BlockingShop", name := "isBetween", desc := "(JJJ)Z" } : Jvm.MethodName) prog_1_method_1_code (6 : Nat) (Option.some Jvm.ClassFile.FieldType.boolean)) ∈ lw_all := lw_g (lw_at lw_m9 1 rfl) rfl
theorem q2016 : (Jvm.Cond.methodLink "BlockingShop" (114 : Nat) ({ cls := "BlockingShop", name := "requireArgument", desc := "(Z)V" } : Jvm.MethodName)) ∈ lw_all := lw_g (lw_at lw_m9 2 rfl) rfl
theorem q2017 : (Jvm.Cond.static ({ cls := "BlockingShop", name := "requireArgument", desc := "(Z)V" } : Jvm.MethodName)) ∈ lw_all := lw_g (lw_at lw_m9 3 rfl) rfl
theorem q2018 : (Jvm.Cond.code ({ cls := "BlockingShop", name := "requireArgument", desc := "(Z)V" } : Jvm.MethodName) prog_1_method_4_code (1 : Nat) (Option.none : Option Jvm.ClassFile.FieldType)) ∈ lw_all := lw_g (lw_at lw_m9 4 rfl) rfl
theorem q2019 : (Jvm.Cond.classLink "BlockingShop" (52 : Nat) "java/lang/IllegalArgumentException") ∈ lw_all := lw_g (lw_at lw_m9 5 rfl) rfl
theorem q2020 : (Jvm.Cond.methodLink "BlockingShop" (54 : Nat) ({ cls := "java/lang/IllegalArgumentException", name := "<init>", desc := "()V" } : Jvm.MethodName)) ∈ lw_all := lw_g (lw_at lw_m9 6 rfl) rfl
theorem q2024 : (Jvm.Cond.classLink "BlockingShop" (118 : Nat) "BlockingShop$Parser") ∈ lw_all := lw_g (lw_at lw_m9 10 rfl) rfl
theorem q2026 : (Jvm.Cond.methodLink "BlockingShop" (120 : Nat) ({ cls := "BlockingShop$Parser", name := "<init>", desc := "(LBlockingShop;I)V" } : Jvm.MethodName)) ∈ lw_all := lw_g (lw_at lw_m9 12 rfl) rfl
theorem q2055 : (Jvm.Cond.methodLink "BlockingShop" (123 : Nat) ({ cls := "BlockingShop$Parser", name := "parse", desc := "()LBlockingShop$Plan;" } : Jvm.MethodName)) ∈ lw_all := lw_g (lw_at lw_m9 41 rfl) rfl
theorem q2122 : (Jvm.Cond.fieldLinkNest "BlockingShop" (140 : Nat) "BlockingShop$SetupException" "code" "I" "BlockingShop") ∈ lw_tbl := lw_at lw_m9 108 rfl
theorem q2124 : (Jvm.Cond.fieldLinkNest "BlockingShop" (137 : Nat) "BlockingShop$SetupException" "offset" "I" "BlockingShop") ∈ lw_tbl := lw_at lw_m9 110 rfl
theorem q2175 : (Jvm.Cond.fieldLinkNest "BlockingShop" (96 : Nat) "BlockingShop$Job" "count" "I" "BlockingShop") ∈ lw_tbl := lw_at lw_m9 161 rfl
theorem q2374 : (Jvm.Cond.selects "BlockingShop" ({ cls := "java/lang/Object", name := "equals", desc := "(Ljava/lang/Object;)Z" } : Jvm.MethodName) ({ cls := "java/lang/Object", name := "equals", desc := "(Ljava/lang/Object;)Z" } : Jvm.MethodName)) ∈ lw_all := lw_g (lw_at lw_m10 120 rfl) rfl
theorem q2497 : (Jvm.Cond.instanceMethod ({ cls := "BlockingShop", name := "operationCount", desc := "(I)I" } : Jvm.MethodName)) ∈ lw_all := lw_g (lw_at lw_m11 3 rfl) rfl
theorem q2498 : (Jvm.Cond.selects "BlockingShop" ({ cls := "BlockingShop", name := "operationCount", desc := "(I)I" } : Jvm.MethodName) ({ cls := "BlockingShop", name := "operationCount", desc := "(I)I" } : Jvm.MethodName)) ∈ lw_all := lw_g (lw_at lw_m11 4 rfl) rfl
theorem q2499 : (Jvm.Cond.code ({ cls := "BlockingShop", name := "operationCount", desc := "(I)I" } : Jvm.MethodName) prog_1_method_18_code (2 : Nat) (Option.some Jvm.ClassFile.FieldType.int)) ∈ lw_all := lw_g (lw_at lw_m11 5 rfl) rfl
theorem q2500 : (Jvm.Cond.methodLink "BlockingShop" (87 : Nat) ({ cls := "BlockingShop", name := "requireJob", desc := "(I)V" } : Jvm.MethodName)) ∈ lw_all := lw_g (lw_at lw_m11 6 rfl) rfl
theorem q2501 : (Jvm.Cond.privateMethod ({ cls := "BlockingShop", name := "requireJob", desc := "(I)V" } : Jvm.MethodName)) ∈ lw_tbl := lw_at lw_m11 7 rfl
theorem q2502 : (Jvm.Cond.instanceMethod ({ cls := "BlockingShop", name := "requireJob", desc := "(I)V" } : Jvm.MethodName)) ∈ lw_all := lw_g (lw_at lw_m11 8 rfl) rfl
theorem q2503 : (Jvm.Cond.code ({ cls := "BlockingShop", name := "requireJob", desc := "(I)V" } : Jvm.MethodName) prog_1_method_6_code (2 : Nat) (Option.none : Option Jvm.ClassFile.FieldType)) ∈ lw_all := lw_g (lw_at lw_m11 9 rfl) rfl
theorem q2504 : (Jvm.Cond.methodLink "BlockingShop" (72 : Nat) ({ cls := "BlockingShop", name := "requireIndex", desc := "(II)V" } : Jvm.MethodName)) ∈ lw_all := lw_g (lw_at lw_m11 10 rfl) rfl
theorem q2505 : (Jvm.Cond.static ({ cls := "BlockingShop", name := "requireIndex", desc := "(II)V" } : Jvm.MethodName)) ∈ lw_all := lw_g (lw_at lw_m11 11 rfl) rfl
theorem q2506 : (Jvm.Cond.code ({ cls := "BlockingShop", name := "requireIndex", desc := "(II)V" } : Jvm.MethodName) prog_1_method_3_code (2 : Nat) (Option.none : Option Jvm.ClassFile.FieldType)) ∈ lw_all := lw_g (lw_at lw_m11 12 rfl) rfl
theorem q2507 : (Jvm.Cond.classLink "BlockingShop" (49 : Nat) "java/lang/IndexOutOfBoundsException") ∈ lw_all := lw_g (lw_at lw_m11 13 rfl) rfl
theorem q2508 : (Jvm.Cond.methodLink "BlockingShop" (51 : Nat) ({ cls := "java/lang/IndexOutOfBoundsException", name := "<init>", desc := "()V" } : Jvm.MethodName)) ∈ lw_all := lw_g (lw_at lw_m11 14 rfl) rfl
theorem q2512 : (Jvm.Cond.interfaceEntry "BlockingShop" (90 : Nat)) ∈ lw_tbl := lw_at lw_m11 18 rfl
theorem q2513 : (Jvm.Cond.methodLink "BlockingShop" (90 : Nat) ({ cls := "java/util/List", name := "get", desc := "(I)Ljava/lang/Object;" } : Jvm.MethodName)) ∈ lw_all := lw_g (lw_at lw_m11 19 rfl) rfl
theorem q2514 : (Jvm.Cond.classLink "BlockingShop" (94 : Nat) "BlockingShop$Job") ∈ lw_all := lw_g (lw_at lw_m11 20 rfl) rfl
theorem q2519 : (Jvm.Cond.instanceMethod ({ cls := "BlockingShop", name := "operation", desc := "(III)I" } : Jvm.MethodName)) ∈ lw_all := lw_g (lw_at lw_m11 25 rfl) rfl
theorem q2520 : (Jvm.Cond.selects "BlockingShop" ({ cls := "BlockingShop", name := "operation", desc := "(III)I" } : Jvm.MethodName) ({ cls := "BlockingShop", name := "operation", desc := "(III)I" } : Jvm.MethodName)) ∈ lw_all := lw_g (lw_at lw_m11 26 rfl) rfl
theorem q2521 : (Jvm.Cond.code ({ cls := "BlockingShop", name := "operation", desc := "(III)I" } : Jvm.MethodName) prog_1_method_19_code (5 : Nat) (Option.some Jvm.ClassFile.FieldType.int)) ∈ lw_all := lw_g (lw_at lw_m11 27 rfl) rfl
theorem q2522 : (Jvm.Cond.methodLink "BlockingShop" (143 : Nat) ({ cls := "BlockingShop", name := "numberOf", desc := "(II)I" } : Jvm.MethodName)) ∈ lw_all := lw_g (lw_at lw_m11 28 rfl) rfl
theorem q2523 : (Jvm.Cond.privateMethod ({ cls := "BlockingShop", name := "numberOf", desc := "(II)I" } : Jvm.MethodName)) ∈ lw_tbl := lw_at lw_m11 29 rfl
theorem q2524 : (Jvm.Cond.instanceMethod ({ cls := "BlockingShop", name := "numberOf", desc := "(II)I" } : Jvm.MethodName)) ∈ lw_all := lw_g (lw_at lw_m11 30 rfl) rfl
theorem q2525 : (Jvm.Cond.code ({ cls := "BlockingShop", name := "numberOf", desc := "(II)I" } : Jvm.MethodName) prog_1_method_9_code (3 : Nat) (Option.some Jvm.ClassFile.FieldType.int)) ∈ lw_all := lw_g (lw_at lw_m11 31 rfl) rfl
theorem q2526 : (Jvm.Cond.constantLong "BlockingShop" (147 : Nat) (2 : Int64)) ∈ lw_all := lw_g (lw_at lw_m11 32 rfl) rfl
theorem q2527 : (Jvm.Cond.methodLink "BlockingShop" (155 : Nat) ({ cls := "BlockingShop$Plan", name := "position", desc := "(I)I" } : Jvm.MethodName)) ∈ lw_all := lw_g (lw_at lw_m11 33 rfl) rfl
theorem q2532 : (Jvm.Cond.instanceMethod ({ cls := "BlockingShop", name := "orderLength", desc := "(I)I" } : Jvm.MethodName)) ∈ lw_all := lw_g (lw_at lw_m11 38 rfl) rfl
theorem q2533 : (Jvm.Cond.selects "BlockingShop" ({ cls := "BlockingShop", name := "orderLength", desc := "(I)I" } : Jvm.MethodName) ({ cls := "BlockingShop", name := "orderLength", desc := "(I)I" } : Jvm.MethodName)) ∈ lw_all := lw_g (lw_at lw_m11 39 rfl) rfl
theorem q2534 : (Jvm.Cond.code ({ cls := "BlockingShop", name := "orderLength", desc := "(I)I" } : Jvm.MethodName) prog_1_method_20_code (2 : Nat) (Option.some Jvm.ClassFile.FieldType.int)) ∈ lw_all := lw_g (lw_at lw_m11 40 rfl) rfl
theorem q2535 : (Jvm.Cond.methodLink "BlockingShop" (79 : Nat) ({ cls := "BlockingShop", name := "requireMachine", desc := "(I)V" } : Jvm.MethodName)) ∈ lw_all := lw_g (lw_at lw_m11 41 rfl) rfl
theorem q2536 : (Jvm.Cond.privateMethod ({ cls := "BlockingShop", name := "requireMachine", desc := "(I)V" } : Jvm.MethodName)) ∈ lw_tbl := lw_at lw_m11 42 rfl
theorem q2537 : (Jvm.Cond.instanceMethod ({ cls := "BlockingShop", name := "requireMachine", desc := "(I)V" } : Jvm.MethodName)) ∈ lw_all := lw_g (lw_at lw_m11 43 rfl) rfl
theorem q2538 : (Jvm.Cond.code ({ cls := "BlockingShop", name := "requireMachine", desc := "(I)V" } : Jvm.MethodName) prog_1_method_7_code (2 : Nat) (Option.none : Option Jvm.ClassFile.FieldType)) ∈ lw_all := lw_g (lw_at lw_m11 44 rfl) rfl
theorem q2543 : (Jvm.Cond.instanceMethod ({ cls := "BlockingShop", name := "orderAt", desc := "(II)I" } : Jvm.MethodName)) ∈ lw_all := lw_g (lw_at lw_m11 49 rfl) rfl
theorem q2544 : (Jvm.Cond.selects "BlockingShop" ({ cls := "BlockingShop", name := "orderAt", desc := "(II)I" } : Jvm.MethodName) ({ cls := "BlockingShop", name := "orderAt", desc := "(II)I" } : Jvm.MethodName)) ∈ lw_all := lw_g (lw_at lw_m11 50 rfl) rfl
theorem q2545 : (Jvm.Cond.code ({ cls := "BlockingShop", name := "orderAt", desc := "(II)I" } : Jvm.MethodName) prog_1_method_21_code (3 : Nat) (Option.some Jvm.ClassFile.FieldType.int)) ∈ lw_all := lw_g (lw_at lw_m11 51 rfl) rfl
theorem q2550 : (Jvm.Cond.instanceMethod ({ cls := "BlockingShop", name := "start", desc := "(II)I" } : Jvm.MethodName)) ∈ lw_all := lw_g (lw_at lw_m11 56 rfl) rfl
theorem q2551 : (Jvm.Cond.selects "BlockingShop" ({ cls := "BlockingShop", name := "start", desc := "(II)I" } : Jvm.MethodName) ({ cls := "BlockingShop", name := "start", desc := "(II)I" } : Jvm.MethodName)) ∈ lw_all := lw_g (lw_at lw_m11 57 rfl) rfl
theorem q2552 : (Jvm.Cond.code ({ cls := "BlockingShop", name := "start", desc := "(II)I" } : Jvm.MethodName) prog_1_method_22_code (3 : Nat) (Option.some Jvm.ClassFile.FieldType.int)) ∈ lw_all := lw_g (lw_at lw_m11 58 rfl) rfl
theorem q2557 : (Jvm.Cond.instanceMethod ({ cls := "BlockingShop", name := "leave", desc := "(II)I" } : Jvm.MethodName)) ∈ lw_all := lw_g (lw_at lw_m11 63 rfl) rfl
theorem q2558 : (Jvm.Cond.selects "BlockingShop" ({ cls := "BlockingShop", name := "leave", desc := "(II)I" } : Jvm.MethodName) ({ cls := "BlockingShop", name := "leave", desc := "(II)I" } : Jvm.MethodName)) ∈ lw_all := lw_g (lw_at lw_m11 64 rfl) rfl
theorem q2559 : (Jvm.Cond.code ({ cls := "BlockingShop", name := "leave", desc := "(II)I" } : Jvm.MethodName) prog_1_method_23_code (3 : Nat) (Option.some Jvm.ClassFile.FieldType.int)) ∈ lw_all := lw_g (lw_at lw_m11 65 rfl) rfl
theorem q2560 : (Jvm.Cond.methodLink "BlockingShop" (169 : Nat) ({ cls := "BlockingShop$Plan", name := "leave", desc := "(I)I" } : Jvm.MethodName)) ∈ lw_all := lw_g (lw_at lw_m11 66 rfl) rfl
theorem q2568 : (Jvm.Cond.instanceMethod ({ cls := "BlockingShop", name := "completion", desc := "(I)I" } : Jvm.MethodName)) ∈ lw_all := lw_g (lw_at lw_m11 74 rfl) rfl
theorem q2569 : (Jvm.Cond.selects "BlockingShop" ({ cls := "BlockingShop", name := "completion", desc := "(I)I" } : Jvm.MethodName) ({ cls := "BlockingShop", name := "completion", desc := "(I)I" } : Jvm.MethodName)) ∈ lw_all := lw_g (lw_at lw_m11 75 rfl) rfl
theorem q2570 : (Jvm.Cond.code ({ cls := "BlockingShop", name := "completion", desc := "(I)I" } : Jvm.MethodName) prog_1_method_24_code (2 : Nat) (Option.some Jvm.ClassFile.FieldType.int)) ∈ lw_all := lw_g (lw_at lw_m11 76 rfl) rfl
theorem q2571 : (Jvm.Cond.methodLink "BlockingShop" (172 : Nat) ({ cls := "BlockingShop$Plan", name := "completion", desc := "(I)I" } : Jvm.MethodName)) ∈ lw_all := lw_g (lw_at lw_m11 77 rfl) rfl
theorem q2576 : (Jvm.Cond.instanceMethod ({ cls := "BlockingShop", name := "jobCost", desc := "(I)I" } : Jvm.MethodName)) ∈ lw_all := lw_g (lw_at lw_m11 82 rfl) rfl
theorem q2577 : (Jvm.Cond.selects "BlockingShop" ({ cls := "BlockingShop", name := "jobCost", desc := "(I)I" } : Jvm.MethodName) ({ cls := "BlockingShop", name := "jobCost", desc := "(I)I" } : Jvm.MethodName)) ∈ lw_all := lw_g (lw_at lw_m11 83 rfl) rfl
theorem q2578 : (Jvm.Cond.code ({ cls := "BlockingShop", name := "jobCost", desc := "(I)I" } : Jvm.MethodName) prog_1_method_26_code (2 : Nat) (Option.some Jvm.ClassFile.FieldType.int)) ∈ lw_all := lw_g (lw_at lw_m11 84 rfl) rfl
theorem q2579 : (Jvm.Cond.methodLink "BlockingShop" (178 : Nat) ({ cls := "BlockingShop$Plan", name := "jobCost", desc := "(I)I" } : Jvm.MethodName)) ∈ lw_all := lw_g (lw_at lw_m11 85 rfl) rfl
theorem q2584 : (Jvm.Cond.instanceMethod ({ cls := "BlockingShop", name := "blockedTime", desc := "(I)I" } : Jvm.MethodName)) ∈ lw_all := lw_g (lw_at lw_m11 90 rfl) rfl
theorem q2585 : (Jvm.Cond.selects "BlockingShop" ({ cls := "BlockingShop", name := "blockedTime", desc := "(I)I" } : Jvm.MethodName) ({ cls := "BlockingShop", name := "blockedTime", desc := "(I)I" } : Jvm.MethodName)) ∈ lw_all := lw_g (lw_at lw_m11 91 rfl) rfl
theorem q2586 : (Jvm.Cond.code ({ cls := "BlockingShop", name := "blockedTime", desc := "(I)I" } : Jvm.MethodName) prog_1_method_28_code (4 : Nat) (Option.some Jvm.ClassFile.FieldType.int)) ∈ lw_all := lw_g (lw_at lw_m11 92 rfl) rfl
theorem q2587 : (Jvm.Cond.methodLink "BlockingShop" (184 : Nat) ({ cls := "BlockingShop$Plan", name := "end", desc := "(I)I" } : Jvm.MethodName)) ∈ lw_all := lw_g (lw_at lw_m11 93 rfl) rfl
theorem q2593 : (Jvm.Cond.instanceMethod ({ cls := "BlockingShop", name := "critical", desc := "(I)I" } : Jvm.MethodName)) ∈ lw_all := lw_g (lw_at lw_m11 99 rfl) rfl
theorem q2594 : (Jvm.Cond.selects "BlockingShop" ({ cls := "BlockingShop", name := "critical", desc := "(I)I" } : Jvm.MethodName) ({ cls := "BlockingShop", name := "critical", desc := "(I)I" } : Jvm.MethodName)) ∈ lw_all := lw_g (lw_at lw_m11 100 rfl) rfl
theorem q2595 : (Jvm.Cond.code ({ cls := "BlockingShop", name := "critical", desc := "(I)I" } : Jvm.MethodName) prog_1_method_30_code (3 : Nat) (Option.some Jvm.ClassFile.FieldType.int)) ∈ lw_all := lw_g (lw_at lw_m11 101 rfl) rfl
theorem q2596 : (Jvm.Cond.classLink "BlockingShop" (194 : Nat) "java/util/NoSuchElementException") ∈ lw_all := lw_g (lw_at lw_m11 102 rfl) rfl
theorem q2597 : (Jvm.Cond.methodLink "BlockingShop" (196 : Nat) ({ cls := "java/util/NoSuchElementException", name := "<init>", desc := "()V" } : Jvm.MethodName)) ∈ lw_all := lw_g (lw_at lw_m11 103 rfl) rfl
theorem q2598 : (Jvm.Cond.methodLink "BlockingShop" (197 : Nat) ({ cls := "java/util/LinkedList", name := "get", desc := "(I)Ljava/lang/Object;" } : Jvm.MethodName)) ∈ lw_all := lw_g (lw_at lw_m11 104 rfl) rfl
theorem q2603 : (Jvm.Cond.instanceMethod ({ cls := "BlockingShop", name := "deadlocks", desc := "(II)Z" } : Jvm.MethodName)) ∈ lw_all := lw_g (lw_at lw_m11 109 rfl) rfl
theorem q2604 : (Jvm.Cond.selects "BlockingShop" ({ cls := "BlockingShop", name := "deadlocks", desc := "(II)Z" } : Jvm.MethodName) ({ cls := "BlockingShop", name := "deadlocks", desc := "(II)Z" } : Jvm.MethodName)) ∈ lw_all := lw_g (lw_at lw_m11 110 rfl) rfl
theorem q2605 : (Jvm.Cond.code ({ cls := "BlockingShop", name := "deadlocks", desc := "(II)Z" } : Jvm.MethodName) prog_1_method_33_code (3 : Nat) (Option.some Jvm.ClassFile.FieldType.boolean)) ∈ lw_all := lw_g (lw_at lw_m11 111 rfl) rfl
theorem q2606 : (Jvm.Cond.methodLink "BlockingShop" (225 : Nat) ({ cls := "BlockingShop", name := "makespanAfter", desc := "(II)I" } : Jvm.MethodName)) ∈ lw_all := lw_g (lw_at lw_m11 112 rfl) rfl
theorem q2607 : (Jvm.Cond.instanceMethod ({ cls := "BlockingShop", name := "makespanAfter", desc := "(II)I" } : Jvm.MethodName)) ∈ lw_all := lw_g (lw_at lw_m11 113 rfl) rfl
theorem q2608 : (Jvm.Cond.selects "BlockingShop" ({ cls := "BlockingShop", name := "makespanAfter", desc := "(II)I" } : Jvm.MethodName) ({ cls := "BlockingShop", name := "makespanAfter", desc := "(II)I" } : Jvm.MethodName)) ∈ lw_all := lw_g (lw_at lw_m11 114 rfl) rfl
theorem q2609 : (Jvm.Cond.code ({ cls := "BlockingShop", name := "makespanAfter", desc := "(II)I" } : Jvm.MethodName) prog_1_method_34_code (4 : Nat) (Option.some Jvm.ClassFile.FieldType.int)) ∈ lw_all := lw_g (lw_at lw_m11 115 rfl) rfl
theorem q2610 : (Jvm.Cond.methodLink "BlockingShop" (228 : Nat) ({ cls := "BlockingShop", name := "requireSwap", desc := "(II)V" } : Jvm.MethodName)) ∈ lw_all := lw_g (lw_at lw_m11 116 rfl) rfl
theorem q2611 : (Jvm.Cond.privateMethod ({ cls := "BlockingShop", name := "requireSwap", desc := "(II)V" } : Jvm.MethodName)) ∈ lw_tbl := lw_at lw_m11 117 rfl
theorem q2612 : (Jvm.Cond.instanceMethod ({ cls := "BlockingShop", name := "requireSwap", desc := "(II)V" } : Jvm.MethodName)) ∈ lw_all := lw_g (lw_at lw_m11 118 rfl) rfl
theorem q2613 : (Jvm.Cond.code ({ cls := "BlockingShop", name := "requireSwap", desc := "(II)V" } : Jvm.MethodName) prog_1_method_8_code (3 : Nat) (Option.none : Option Jvm.ClassFile.FieldType)) ∈ lw_all := lw_g (lw_at lw_m11 119 rfl) rfl
theorem q2623 : (Jvm.Cond.instanceMethod ({ cls := "BlockingShop", name := "swap", desc := "(II)I" } : Jvm.MethodName)) ∈ lw_all := lw_g (lw_at lw_m11 129 rfl) rfl
theorem q2624 : (Jvm.Cond.selects "BlockingShop" ({ cls := "BlockingShop", name := "swap", desc := "(II)I" } : Jvm.MethodName) ({ cls := "BlockingShop", name := "swap", desc := "(II)I" } : Jvm.MethodName)) ∈ lw_all := lw_g (lw_at lw_m11 130 rfl) rfl
theorem q2625 : (Jvm.Cond.code ({ cls := "BlockingShop", name := "swap", desc := "(II)I" } : Jvm.MethodName) prog_1_method_38_code (4 : Nat) (Option.some Jvm.ClassFile.FieldType.int)) ∈ lw_all := lw_g (lw_at lw_m11 131 rfl) rfl
theorem q2626 : (Jvm.Cond.methodLink "BlockingShop" (251 : Nat) ({ cls := "BlockingShop", name := "requireTimed", desc := "(LBlockingShop$Plan;)I" } : Jvm.MethodName)) ∈ lw_all := lw_g (lw_at lw_m11 132 rfl) rfl
theorem q2627 : (Jvm.Cond.privateMethod ({ cls := "BlockingShop", name := "requireTimed", desc := "(LBlockingShop$Plan;)I" } : Jvm.MethodName)) ∈ lw_tbl := lw_at lw_m11 133 rfl
theorem q2628 : (Jvm.Cond.instanceMethod ({ cls := "BlockingShop", name := "requireTimed", desc := "(LBlockingShop$Plan;)I" } : Jvm.MethodName)) ∈ lw_all := lw_g (lw_at lw_m11 134 rfl) rfl
theorem q2629 : (Jvm.Cond.code ({ cls := "BlockingShop", name := "requireTimed", desc := "(LBlockingShop$Plan;)I" } : Jvm.MethodName) prog_1_method_37_code (2 : Nat) (Option.some Jvm.ClassFile.FieldType.int)) ∈ lw_all := lw_g (lw_at lw_m11 135 rfl) rfl
theorem q2630 : (Jvm.Cond.methodLink "BlockingShop" (248 : Nat) ({ cls := "BlockingShop", name := "requireState", desc := "(Z)V" } : Jvm.MethodName)) ∈ lw_all := lw_g (lw_at lw_m11 136 rfl) rfl
theorem q2631 : (Jvm.Cond.static ({ cls := "BlockingShop", name := "requireState", desc := "(Z)V" } : Jvm.MethodName)) ∈ lw_all := lw_g (lw_at lw_m11 137 rfl) rfl
theorem q2632 : (Jvm.Cond.code ({ cls := "BlockingShop", name := "requireState", desc := "(Z)V" } : Jvm.MethodName) prog_1_method_5_code (1 : Nat) (Option.none : Option Jvm.ClassFile.FieldType)) ∈ lw_all := lw_g (lw_at lw_m11 138 rfl) rfl
theorem q2633 : (Jvm.Cond.classLink "BlockingShop" (55 : Nat) "java/lang/IllegalStateException") ∈ lw_all := lw_g (lw_at lw_m11 139 rfl) rfl
theorem q2634 : (Jvm.Cond.methodLink "BlockingShop" (57 : Nat) ({ cls := "java/lang/IllegalStateException", name := "<init>", desc := "()V" } : Jvm.MethodName)) ∈ lw_all := lw_g (lw_at lw_m11 140 rfl) rfl
theorem q2642 : (Jvm.Cond.instanceMethod ({ cls := "BlockingShop", name := "improve", desc := "(I)I" } : Jvm.MethodName)) ∈ lw_all := lw_g (lw_at lw_m11 148 rfl) rfl
theorem q2643 : (Jvm.Cond.selects "BlockingShop" ({ cls := "BlockingShop", name := "improve", desc := "(I)I" } : Jvm.MethodName) ({ cls := "BlockingShop", name := "improve", desc := "(I)I" } : Jvm.MethodName)) ∈ lw_all := lw_g (lw_at lw_m11 149 rfl) rfl
theorem q2644 : (Jvm.Cond.code ({ cls := "BlockingShop", name := "improve", desc := "(I)I" } : Jvm.MethodName) prog_1_method_39_code (6 : Nat) (Option.some Jvm.ClassFile.FieldType.int)) ∈ lw_all := lw_g (lw_at lw_m11 150 rfl) rfl
theorem q2645 : (Jvm.Cond.constantLong "BlockingShop" (255 : Nat) (20 : Int64)) ∈ lw_all := lw_g (lw_at lw_m11 151 rfl) rfl
theorem q2650 : (Jvm.Cond.instanceMethod ({ cls := "BlockingShop", name := "place", desc := "(III)I" } : Jvm.MethodName)) ∈ lw_all := lw_g (lw_at lw_m11 156 rfl) rfl
theorem q2651 : (Jvm.Cond.selects "BlockingShop" ({ cls := "BlockingShop", name := "place", desc := "(III)I" } : Jvm.MethodName) ({ cls := "BlockingShop", name := "place", desc := "(III)I" } : Jvm.MethodName)) ∈ lw_all := lw_g (lw_at lw_m11 157 rfl) rfl
theorem q2652 : (Jvm.Cond.code ({ cls := "BlockingShop", name := "place", desc := "(III)I" } : Jvm.MethodName) prog_1_method_40_code (6 : Nat) (Option.some Jvm.ClassFile.FieldType.int)) ∈ lw_all := lw_g (lw_at lw_m11 158 rfl) rfl
theorem q2653 : (Jvm.Cond.methodLink "BlockingShop" (257 : Nat) ({ cls := "BlockingShop$Plan", name := "place", desc := "(II)V" } : Jvm.MethodName)) ∈ lw_all := lw_g (lw_at lw_m11 159 rfl) rfl
theorem q2662 : (Jvm.Cond.instanceMethod ({ cls := "BlockingShop", name := "setDuration", desc := "(III)I" } : Jvm.MethodName)) ∈ lw_all := lw_g (lw_at lw_m11 168 rfl) rfl
theorem q2663 : (Jvm.Cond.selects "BlockingShop" ({ cls := "BlockingShop", name := "setDuration", desc := "(III)I" } : Jvm.MethodName) ({ cls := "BlockingShop", name := "setDuration", desc := "(III)I" } : Jvm.MethodName)) ∈ lw_all := lw_g (lw_at lw_m11 169 rfl) rfl
theorem q2664 : (Jvm.Cond.code ({ cls := "BlockingShop", name := "setDuration", desc := "(III)I" } : Jvm.MethodName) prog_1_method_41_code (8 : Nat) (Option.some Jvm.ClassFile.FieldType.int)) ∈ lw_all := lw_g (lw_at lw_m11 170 rfl) rfl
theorem q2665 : (Jvm.Cond.constantLong "BlockingShop" (260 : Nat) (99 : Int64)) ∈ lw_all := lw_g (lw_at lw_m11 171 rfl) rfl
theorem q3143 : (Jvm.Cond.castable "BlockingShop" "java/lang/Object") ∈ lw_tbl := lw_at lw_m13 169 rfl
theorem in_X1 : ∀ w ∈ wsX10, w ∈ lw_all := lw_in wsX10 [397, 399, 401, 403, 405, 407] (by decide +kernel) (by decide +kernel)

/-! BlockingShop$SetupException -/
set_option maxRecDepth 100000
def RX10 : String := "BlockingShop$SetupException"
def TX10 : u_T := fun k => match k with
  | 0 => ("java/lang/Throwable", "cause", "Ljava/lang/Throwable;", false)
  | 1 => ("java/lang/Throwable", "stackTrace", "[Ljava/lang/StackTraceElement;", false)
  | 2 => ("java/lang/Throwable", "suppressedExceptions", "Ljava/util/List;", false)
  | 3 => ("java/lang/Throwable", "detailMessage", "Ljava/lang/String;", false)
  | 4 => ("java/lang/Throwable", "backtrace", "Ljava/lang/Object;", false)
  | 5 => ("java/lang/Throwable", "depth", "I", false)
  | 6 => ("BlockingShop$SetupException", "code", "I", true)
  | _ => ("BlockingShop$SetupException", "offset", "I", true)
def tyX10 : Nat → FieldType := fun k => match k with
  | 0 => .object "java/lang/Throwable"
  | 1 => .array (.object "java/lang/StackTraceElement")
  | 2 => .object "java/util/List"
  | 3 => .object "java/lang/String"
  | 4 => .object "java/lang/Object"
  | 5 => .int
  | 6 => .int
  | _ => .int
abbrev wsX100 : List Cond := u_ws RX10 TX10 8
theorem nmX10 : ∀ a, a < 8 → ∀ b, b < 8 → a ≠ b → (TX10 a).2.1 ≠ (TX10 b).2.1 := by decide +kernel
theorem tyX10_ok : ∀ k, k < 8 → parseFieldDescriptor (TX10 k).2.2.1 = some (tyX10 k) := by decide +kernel
abbrev cX10_init : ByteArray := prog_12_method_1_code
def yX10_init : MethodName := ⟨RX10, "<init>", "(II)V"⟩
def dkwX10_init_0 : List UInt8 := [42, 1, 1, 3, 3, 183, 0, 1, 42, 27, 181, 0, 7, 42, 28, 181, 0, 13, 177]
abbrev dktX10_init_0 : List UInt8 := dkwX10_init_0 ++ []
theorem dksX10_init_0 : cX10_init.data.toList.drop 0 = dktX10_init_0 := by decide +kernel
theorem dX10_init_0 : decode cX10_init 0 = .ok (.aload_n 0, 1) := dk_42 (dk_at dksX10_init_0 0 rfl rfl)
theorem dX10_init_1 : decode cX10_init 1 = .ok (.aconst_null, 1) := dk_1 (dk_at dksX10_init_0 1 rfl rfl)
theorem dX10_init_2 : decode cX10_init 2 = .ok (.aconst_null, 1) := dk_1 (dk_at dksX10_init_0 2 rfl rfl)
theorem dX10_init_3 : decode cX10_init 3 = .ok (.iconst 0, 1) := dk_3 (dk_at dksX10_init_0 3 rfl rfl)
theorem dX10_init_4 : decode cX10_init 4 = .ok (.iconst 0, 1) := dk_3 (dk_at dksX10_init_0 4 rfl rfl)
theorem dX10_init_5 : decode cX10_init 5 = .ok (.invokespecial 1, 3) := dk_183 0 1 (dk_at dksX10_init_0 5 rfl rfl)
theorem dX10_init_8 : decode cX10_init 8 = .ok (.aload_n 0, 1) := dk_42 (dk_at dksX10_init_0 8 rfl rfl)
theorem dX10_init_9 : decode cX10_init 9 = .ok (.iload_n 1, 1) := dk_27 (dk_at dksX10_init_0 9 rfl rfl)
theorem dX10_init_10 : decode cX10_init 10 = .ok (.putfield 7, 3) := dk_181 0 7 (dk_at dksX10_init_0 10 rfl rfl)
theorem dX10_init_13 : decode cX10_init 13 = .ok (.aload_n 0, 1) := dk_42 (dk_at dksX10_init_0 13 rfl rfl)
theorem dX10_init_14 : decode cX10_init 14 = .ok (.iload_n 2, 1) := dk_28 (dk_at dksX10_init_0 14 rfl rfl)
theorem dX10_init_15 : decode cX10_init 15 = .ok (.putfield 13, 3) := dk_181 0 13 (dk_at dksX10_init_0 15 rfl rfl)
theorem dX10_init_18 : decode cX10_init 18 = .ok (.return_, 1) := dk_177 (dk_at dksX10_init_0 18 rfl rfl)
theorem q126 : (Jvm.Cond.initialized "BlockingShop$SetupException") ∈ lw_all := lw_g (lw_at lw_m1 32 rfl) rfl
theorem q537 : (Jvm.Cond.selects "BlockingShop$SetupException" ({ cls := "java/lang/Throwable", name := "fillInStackTrace", desc := "()Ljava/lang/Throwable;" } : Jvm.MethodName) ({ cls := "java/lang/Throwable", name := "fillInStackTrace", desc := "()Ljava/lang/Throwable;" } : Jvm.MethodName)) ∈ lw_all := lw_g (lw_at lw_m2 203 rfl) rfl
theorem q1471 : (Jvm.Cond.selects "BlockingShop$SetupException" ({ cls := "java/lang/Throwable", name := "toString", desc := "()Ljava/lang/String;" } : Jvm.MethodName) ({ cls := "java/lang/Throwable", name := "toString", desc := "()Ljava/lang/String;" } : Jvm.MethodName)) ∈ lw_all := lw_g (lw_at lw_m6 177 rfl) rfl
theorem q1491 : (Jvm.Cond.selects "BlockingShop$SetupException" ({ cls := "java/lang/Object", name := "getClass", desc := "()Ljava/lang/Class;" } : Jvm.MethodName) ({ cls := "java/lang/Object", name := "getClass", desc := "()Ljava/lang/Class;" } : Jvm.MethodName)) ∈ lw_all := lw_g (lw_at lw_m6 197 rfl) rfl
theorem q1522 : (Jvm.Cond.selects "BlockingShop$SetupException" ({ cls := "java/lang/Throwable", name := "getLocalizedMessage", desc := "()Ljava/lang/String;" } : Jvm.MethodName) ({ cls := "java/lang/Throwable", name := "getLocalizedMessage", desc := "()Ljava/lang/String;" } : Jvm.MethodName)) ∈ lw_all := lw_g (lw_at lw_m6 228 rfl) rfl
theorem q1532 : (Jvm.Cond.selects "BlockingShop$SetupException" ({ cls := "java/lang/Throwable", name := "getMessage", desc := "()Ljava/lang/String;" } : Jvm.MethodName) ({ cls := "java/lang/Throwable", name := "getMessage", desc := "()Ljava/lang/String;" } : Jvm.MethodName)) ∈ lw_all := lw_g (lw_at lw_m6 238 rfl) rfl
theorem q2104 : (Jvm.Cond.instantiable "BlockingShop$SetupException" (8 : Nat)) ∈ lw_all := lw_g (lw_at lw_m9 90 rfl) rfl
theorem q2105 : (Jvm.Cond.castable "BlockingShop$SetupException" "BlockingShop$SetupException") ∈ lw_tbl := lw_at lw_m9 91 rfl
theorem q2106 : (Jvm.Cond.selects "BlockingShop$SetupException" ({ cls := "java/lang/Throwable", name := "fillInStackTrace", desc := "(I)Ljava/lang/Throwable;" } : Jvm.MethodName) ({ cls := "java/lang/Throwable", name := "fillInStackTrace", desc := "(I)Ljava/lang/Throwable;" } : Jvm.MethodName)) ∈ lw_all := lw_g (lw_at lw_m9 92 rfl) rfl
theorem q2107 : (Jvm.Cond.lays "BlockingShop$SetupException" "java/lang/Throwable" "cause" "Ljava/lang/Throwable;") ∈ lw_all := lw_g (lw_at lw_m9 93 rfl) rfl
theorem q2108 : (Jvm.Cond.lays "BlockingShop$SetupException" "java/lang/Throwable" "stackTrace" "[Ljava/lang/StackTraceElement;") ∈ lw_all := lw_g (lw_at lw_m9 94 rfl) rfl
theorem q2109 : (Jvm.Cond.lays "BlockingShop$SetupException" "java/lang/Throwable" "suppressedExceptions" "Ljava/util/List;") ∈ lw_all := lw_g (lw_at lw_m9 95 rfl) rfl
theorem q2110 : (Jvm.Cond.lays "BlockingShop$SetupException" "java/lang/Throwable" "detailMessage" "Ljava/lang/String;") ∈ lw_all := lw_g (lw_at lw_m9 96 rfl) rfl
theorem q2111 : (Jvm.Cond.lays "BlockingShop$SetupException" "java/lang/Throwable" "backtrace" "Ljava/lang/Object;") ∈ lw_all := lw_g (lw_at lw_m9 97 rfl) rfl
theorem q2113 : (Jvm.Cond.instanceMethod ({ cls := "BlockingShop$SetupException", name := "<init>", desc := "(II)V" } : Jvm.MethodName)) ∈ lw_all := lw_g (lw_at lw_m9 99 rfl) rfl
theorem q2114 : (Jvm.Cond.code ({ cls := "BlockingShop$SetupException", name := "<init>", desc := "(II)V" } : Jvm.MethodName) prog_12_method_1_code (3 : Nat) (Option.none : Option Jvm.ClassFile.FieldType)) ∈ lw_all := lw_g (lw_at lw_m9 100 rfl) rfl
theorem q2115 : (Jvm.Cond.methodLink "BlockingShop$SetupException" (1 : Nat) ({ cls := "java/lang/Exception", name := "<init>", desc := "(Ljava/lang/String;Ljava/lang/Throwable;ZZ)V" } : Jvm.MethodName)) ∈ lw_all := lw_g (lw_at lw_m9 101 rfl) rfl
theorem q2121 : (Jvm.Cond.fieldLink "BlockingShop$SetupException" (7 : Nat) "BlockingShop$SetupException" "code" "I") ∈ lw_all := lw_g (lw_at lw_m9 107 rfl) rfl
theorem q2123 : (Jvm.Cond.fieldLink "BlockingShop$SetupException" (13 : Nat) "BlockingShop$SetupException" "offset" "I") ∈ lw_all := lw_g (lw_at lw_m9 109 rfl) rfl
theorem q2125 : (Jvm.Cond.laysFinal "BlockingShop$SetupException" "BlockingShop$SetupException" "code" "I") ∈ lw_all := lw_g (lw_at lw_m9 111 rfl) rfl
theorem q2126 : (Jvm.Cond.soleField "BlockingShop$SetupException" "code") ∈ lw_all := lw_g (lw_at lw_m9 112 rfl) rfl
theorem q2127 : (Jvm.Cond.laysFinal "BlockingShop$SetupException" "BlockingShop$SetupException" "offset" "I") ∈ lw_all := lw_g (lw_at lw_m9 113 rfl) rfl
theorem q2128 : (Jvm.Cond.soleField "BlockingShop$SetupException" "offset") ∈ lw_all := lw_g (lw_at lw_m9 114 rfl) rfl
theorem q2129 : (Jvm.Cond.lays "BlockingShop$SetupException" "java/lang/Throwable" "depth" "I") ∈ lw_all := lw_g (lw_at lw_m9 115 rfl) rfl
theorem q2130 : (Jvm.Cond.superclass "BlockingShop$SetupException" "java/lang/Exception") ∈ lw_all := lw_g (lw_at lw_m9 116 rfl) rfl
theorem q2384 : (Jvm.Cond.selects "BlockingShop$SetupException" ({ cls := "java/lang/Object", name := "equals", desc := "(Ljava/lang/Object;)Z" } : Jvm.MethodName) ({ cls := "java/lang/Object", name := "equals", desc := "(Ljava/lang/Object;)Z" } : Jvm.MethodName)) ∈ lw_all := lw_g (lw_at lw_m10 130 rfl) rfl
theorem q3157 : (Jvm.Cond.castable "BlockingShop$SetupException" "java/lang/Object") ∈ lw_tbl := lw_at lw_m13 183 rfl
theorem in_X10 : ∀ w ∈ wsX100, w ∈ lw_all := lw_in wsX100 [2107, 2108, 2109, 2110, 2111, 2129, 2125, 2127] (by decide +kernel) (by decide +kernel)

/-! BlockingShop$Job -/
set_option maxRecDepth 100000
def RX11 : String := "BlockingShop$Job"
def TX11 : u_T := fun k => match k with
  | 0 => ("BlockingShop$Job", "release", "I", true)
  | 1 => ("BlockingShop$Job", "due", "I", true)
  | 2 => ("BlockingShop$Job", "weight", "I", true)
  | _ => ("BlockingShop$Job", "count", "I", false)
def tyX11 : Nat → FieldType := fun k => match k with
  | 0 => .int
  | 1 => .int
  | 2 => .int
  | _ => .int
abbrev wsX110 : List Cond := u_ws RX11 TX11 4
theorem nmX11 : ∀ a, a < 4 → ∀ b, b < 4 → a ≠ b → (TX11 a).2.1 ≠ (TX11 b).2.1 := by decide +kernel
theorem tyX11_ok : ∀ k, k < 4 → parseFieldDescriptor (TX11 k).2.2.1 = some (tyX11 k) := by decide +kernel
abbrev cX11_init : ByteArray := prog_3_method_1_code
def yX11_init : MethodName := ⟨RX11, "<init>", "(III)V"⟩
def dkwX11_init_0 : List UInt8 := [42, 183, 0, 1, 42, 27, 181, 0, 7, 42, 28, 181, 0, 13, 42, 29, 181, 0, 16, 177]
abbrev dktX11_init_0 : List UInt8 := dkwX11_init_0 ++ []
theorem dksX11_init_0 : cX11_init.data.toList.drop 0 = dktX11_init_0 := by decide +kernel
theorem dX11_init_0 : decode cX11_init 0 = .ok (.aload_n 0, 1) := dk_42 (dk_at dksX11_init_0 0 rfl rfl)
theorem dX11_init_1 : decode cX11_init 1 = .ok (.invokespecial 1, 3) := dk_183 0 1 (dk_at dksX11_init_0 1 rfl rfl)
theorem dX11_init_4 : decode cX11_init 4 = .ok (.aload_n 0, 1) := dk_42 (dk_at dksX11_init_0 4 rfl rfl)
theorem dX11_init_5 : decode cX11_init 5 = .ok (.iload_n 1, 1) := dk_27 (dk_at dksX11_init_0 5 rfl rfl)
theorem dX11_init_6 : decode cX11_init 6 = .ok (.putfield 7, 3) := dk_181 0 7 (dk_at dksX11_init_0 6 rfl rfl)
theorem dX11_init_9 : decode cX11_init 9 = .ok (.aload_n 0, 1) := dk_42 (dk_at dksX11_init_0 9 rfl rfl)
theorem dX11_init_10 : decode cX11_init 10 = .ok (.iload_n 2, 1) := dk_28 (dk_at dksX11_init_0 10 rfl rfl)
theorem dX11_init_11 : decode cX11_init 11 = .ok (.putfield 13, 3) := dk_181 0 13 (dk_at dksX11_init_0 11 rfl rfl)
theorem dX11_init_14 : decode cX11_init 14 = .ok (.aload_n 0, 1) := dk_42 (dk_at dksX11_init_0 14 rfl rfl)
theorem dX11_init_15 : decode cX11_init 15 = .ok (.iload_n 3, 1) := dk_29 (dk_at dksX11_init_0 15 rfl rfl)
theorem dX11_init_16 : decode cX11_init 16 = .ok (.putfield 16, 3) := dk_181 0 16 (dk_at dksX11_init_0 16 rfl rfl)
theorem dX11_init_19 : decode cX11_init 19 = .ok (.return_, 1) := dk_177 (dk_at dksX11_init_0 19 rfl rfl)
theorem q128 : (Jvm.Cond.initialized "BlockingShop$Job") ∈ lw_all := lw_g (lw_at lw_m1 34 rfl) rfl
theorem q1483 : (Jvm.Cond.selects "BlockingShop$Job" ({ cls := "java/lang/Object", name := "getClass", desc := "()Ljava/lang/Class;" } : Jvm.MethodName) ({ cls := "java/lang/Object", name := "getClass", desc := "()Ljava/lang/Class;" } : Jvm.MethodName)) ∈ lw_all := lw_g (lw_at lw_m6 189 rfl) rfl
theorem q2161 : (Jvm.Cond.instantiable "BlockingShop$Job" (4 : Nat)) ∈ lw_all := lw_g (lw_at lw_m9 147 rfl) rfl
theorem q2163 : (Jvm.Cond.instanceMethod ({ cls := "BlockingShop$Job", name := "<init>", desc := "(III)V" } : Jvm.MethodName)) ∈ lw_all := lw_g (lw_at lw_m9 149 rfl) rfl
theorem q2164 : (Jvm.Cond.code ({ cls := "BlockingShop$Job", name := "<init>", desc := "(III)V" } : Jvm.MethodName) prog_3_method_1_code (4 : Nat) (Option.none : Option Jvm.ClassFile.FieldType)) ∈ lw_all := lw_g (lw_at lw_m9 150 rfl) rfl
theorem q2165 : (Jvm.Cond.methodLink "BlockingShop$Job" (1 : Nat) ({ cls := "java/lang/Object", name := "<init>", desc := "()V" } : Jvm.MethodName)) ∈ lw_all := lw_g (lw_at lw_m9 151 rfl) rfl
theorem q2166 : (Jvm.Cond.fieldLink "BlockingShop$Job" (7 : Nat) "BlockingShop$Job" "release" "I") ∈ lw_all := lw_g (lw_at lw_m9 152 rfl) rfl
theorem q2170 : (Jvm.Cond.fieldLink "BlockingShop$Job" (13 : Nat) "BlockingShop$Job" "due" "I") ∈ lw_all := lw_g (lw_at lw_m9 156 rfl) rfl
theorem q2172 : (Jvm.Cond.fieldLink "BlockingShop$Job" (16 : Nat) "BlockingShop$Job" "weight" "I") ∈ lw_all := lw_g (lw_at lw_m9 158 rfl) rfl
theorem q2178 : (Jvm.Cond.laysFinal "BlockingShop$Job" "BlockingShop$Job" "release" "I") ∈ lw_all := lw_g (lw_at lw_m9 164 rfl) rfl
theorem q2179 : (Jvm.Cond.soleField "BlockingShop$Job" "release") ∈ lw_all := lw_g (lw_at lw_m9 165 rfl) rfl
theorem q2180 : (Jvm.Cond.laysFinal "BlockingShop$Job" "BlockingShop$Job" "due" "I") ∈ lw_all := lw_g (lw_at lw_m9 166 rfl) rfl
theorem q2181 : (Jvm.Cond.soleField "BlockingShop$Job" "due") ∈ lw_all := lw_g (lw_at lw_m9 167 rfl) rfl
theorem q2182 : (Jvm.Cond.laysFinal "BlockingShop$Job" "BlockingShop$Job" "weight" "I") ∈ lw_all := lw_g (lw_at lw_m9 168 rfl) rfl
theorem q2183 : (Jvm.Cond.soleField "BlockingShop$Job" "weight") ∈ lw_all := lw_g (lw_at lw_m9 169 rfl) rfl
theorem q2184 : (Jvm.Cond.lays "BlockingShop$Job" "BlockingShop$Job" "count" "I") ∈ lw_all := lw_g (lw_at lw_m9 170 rfl) rfl
theorem q2185 : (Jvm.Cond.soleField "BlockingShop$Job" "count") ∈ lw_all := lw_g (lw_at lw_m9 171 rfl) rfl
theorem q2186 : (Jvm.Cond.superclass "BlockingShop$Job" "java/lang/Object") ∈ lw_all := lw_g (lw_at lw_m9 172 rfl) rfl
theorem q2376 : (Jvm.Cond.selects "BlockingShop$Job" ({ cls := "java/lang/Object", name := "equals", desc := "(Ljava/lang/Object;)Z" } : Jvm.MethodName) ({ cls := "java/lang/Object", name := "equals", desc := "(Ljava/lang/Object;)Z" } : Jvm.MethodName)) ∈ lw_all := lw_g (lw_at lw_m10 122 rfl) rfl
theorem q3159 : (Jvm.Cond.castable "BlockingShop$Job" "java/lang/Object") ∈ lw_tbl := lw_at lw_m13 185 rfl
theorem in_X11 : ∀ w ∈ wsX110, w ∈ lw_all := lw_in wsX110 [2178, 2180, 2182, 2184] (by decide +kernel) (by decide +kernel)

/-! BlockingShop$Literal -/
set_option maxRecDepth 100000
def RX12 : String := "BlockingShop$Literal"
def TX12 : u_T := fun k => match k with
  | _ => ("BlockingShop$Literal", "number", "J", true)
def tyX12 : Nat → FieldType := fun k => match k with
  | _ => .long
abbrev wsX120 : List Cond := u_ws RX12 TX12 1
theorem nmX12 : ∀ a, a < 1 → ∀ b, b < 1 → a ≠ b → (TX12 a).2.1 ≠ (TX12 b).2.1 := by decide +kernel
theorem tyX12_ok : ∀ k, k < 1 → parseFieldDescriptor (TX12 k).2.2.1 = some (tyX12 k) := by decide +kernel
abbrev cX12_of : ByteArray := prog_5_method_2_code
def yX12_of : MethodName := ⟨RX12, "of", "(LBlockingShop$Job;J)J"⟩
theorem dX12_of_0 : decode cX12_of 0 = .ok (.aload_n 0, 1) := by decide +kernel
theorem dX12_of_1 : decode cX12_of 1 = .ok (.getfield 7, 3) := by decide +kernel
theorem dX12_of_4 : decode cX12_of 4 = .ok (.lreturn, 1) := by decide +kernel
abbrev cX12_init : ByteArray := prog_5_method_1_code
def yX12_init : MethodName := ⟨RX12, "<init>", "(J)V"⟩
def dkwX12_init_0 : List UInt8 := [42, 183, 0, 1, 42, 31, 181, 0, 7, 177]
abbrev dktX12_init_0 : List UInt8 := dkwX12_init_0 ++ []
theorem dksX12_init_0 : cX12_init.data.toList.drop 0 = dktX12_init_0 := by decide +kernel
theorem dX12_init_0 : decode cX12_init 0 = .ok (.aload_n 0, 1) := dk_42 (dk_at dksX12_init_0 0 rfl rfl)
theorem dX12_init_1 : decode cX12_init 1 = .ok (.invokespecial 1, 3) := dk_183 0 1 (dk_at dksX12_init_0 1 rfl rfl)
theorem dX12_init_4 : decode cX12_init 4 = .ok (.aload_n 0, 1) := dk_42 (dk_at dksX12_init_0 4 rfl rfl)
theorem dX12_init_5 : decode cX12_init 5 = .ok (.lload_n 1, 1) := dk_31 (dk_at dksX12_init_0 5 rfl rfl)
theorem dX12_init_6 : decode cX12_init 6 = .ok (.putfield 7, 3) := dk_181 0 7 (dk_at dksX12_init_0 6 rfl rfl)
theorem dX12_init_9 : decode cX12_init 9 = .ok (.return_, 1) := dk_177 (dk_at dksX12_init_0 9 rfl rfl)
theorem q138 : (Jvm.Cond.initialized "BlockingShop$Literal") ∈ lw_all := lw_g (lw_at lw_m1 44 rfl) rfl
theorem q896 : (Jvm.Cond.selects "BlockingShop$Literal" ({ cls := "BlockingShop$Node", name := "of", desc := "(LBlockingShop$Job;J)J" } : Jvm.MethodName) ({ cls := "BlockingShop$Literal", name := "of", desc := "(LBlockingShop$Job;J)J" } : Jvm.MethodName)) ∈ lw_all := lw_g (lw_at lw_m4 82 rfl) rfl
theorem q897 : (Jvm.Cond.instanceMethod ({ cls := "BlockingShop$Literal", name := "of", desc := "(LBlockingShop$Job;J)J" } : Jvm.MethodName)) ∈ lw_all := lw_g (lw_at lw_m4 83 rfl) rfl
theorem q898 : (Jvm.Cond.code ({ cls := "BlockingShop$Literal", name := "of", desc := "(LBlockingShop$Job;J)J" } : Jvm.MethodName) prog_5_method_2_code (4 : Nat) (Option.some Jvm.ClassFile.FieldType.long)) ∈ lw_all := lw_g (lw_at lw_m4 84 rfl) rfl
theorem q1485 : (Jvm.Cond.selects "BlockingShop$Literal" ({ cls := "java/lang/Object", name := "getClass", desc := "()Ljava/lang/Class;" } : Jvm.MethodName) ({ cls := "java/lang/Object", name := "getClass", desc := "()Ljava/lang/Class;" } : Jvm.MethodName)) ∈ lw_all := lw_g (lw_at lw_m6 191 rfl) rfl
theorem q2290 : (Jvm.Cond.instantiable "BlockingShop$Literal" (1 : Nat)) ∈ lw_all := lw_g (lw_at lw_m10 36 rfl) rfl
theorem q2292 : (Jvm.Cond.instanceMethod ({ cls := "BlockingShop$Literal", name := "<init>", desc := "(J)V" } : Jvm.MethodName)) ∈ lw_all := lw_g (lw_at lw_m10 38 rfl) rfl
theorem q2293 : (Jvm.Cond.code ({ cls := "BlockingShop$Literal", name := "<init>", desc := "(J)V" } : Jvm.MethodName) prog_5_method_1_code (3 : Nat) (Option.none : Option Jvm.ClassFile.FieldType)) ∈ lw_all := lw_g (lw_at lw_m10 39 rfl) rfl
theorem q2294 : (Jvm.Cond.methodLinkNest "BlockingShop$Literal" (1 : Nat) ({ cls := "BlockingShop$Node", name := "<init>", desc := "()V" } : Jvm.MethodName) "BlockingShop") ∈ lw_tbl := lw_at lw_m10 40 rfl
theorem q2295 : (Jvm.Cond.fieldLink "BlockingShop$Literal" (7 : Nat) "BlockingShop$Literal" "number" "J") ∈ lw_all := lw_g (lw_at lw_m10 41 rfl) rfl
theorem q2296 : (Jvm.Cond.laysFinal "BlockingShop$Literal" "BlockingShop$Literal" "number" "J") ∈ lw_all := lw_g (lw_at lw_m10 42 rfl) rfl
theorem q2297 : (Jvm.Cond.soleField "BlockingShop$Literal" "number") ∈ lw_all := lw_g (lw_at lw_m10 43 rfl) rfl
theorem q2298 : (Jvm.Cond.superclass "BlockingShop$Literal" "BlockingShop$Node") ∈ lw_all := lw_g (lw_at lw_m10 44 rfl) rfl
theorem q2378 : (Jvm.Cond.selects "BlockingShop$Literal" ({ cls := "java/lang/Object", name := "equals", desc := "(Ljava/lang/Object;)Z" } : Jvm.MethodName) ({ cls := "java/lang/Object", name := "equals", desc := "(Ljava/lang/Object;)Z" } : Jvm.MethodName)) ∈ lw_all := lw_g (lw_at lw_m10 124 rfl) rfl
theorem q3165 : (Jvm.Cond.castable "BlockingShop$Literal" "java/lang/Object") ∈ lw_tbl := lw_at lw_m13 191 rfl
theorem in_X12 : ∀ w ∈ wsX120, w ∈ lw_all := lw_in wsX120 [2296] (by decide +kernel) (by decide +kernel)

/-! BlockingShop$Operation -/
set_option maxRecDepth 100000
def RX13 : String := "BlockingShop$Operation"
def TX13 : u_T := fun k => match k with
  | 0 => ("BlockingShop$Operation", "sign", "I", true)
  | 1 => ("BlockingShop$Operation", "left", "LBlockingShop$Node;", true)
  | _ => ("BlockingShop$Operation", "right", "LBlockingShop$Node;", true)
def tyX13 : Nat → FieldType := fun k => match k with
  | 0 => .int
  | 1 => .object "BlockingShop$Node"
  | _ => .object "BlockingShop$Node"
abbrev wsX130 : List Cond := u_ws RX13 TX13 3
theorem nmX13 : ∀ a, a < 3 → ∀ b, b < 3 → a ≠ b → (TX13 a).2.1 ≠ (TX13 b).2.1 := by decide +kernel
theorem tyX13_ok : ∀ k, k < 3 → parseFieldDescriptor (TX13 k).2.2.1 = some (tyX13 k) := by decide +kernel
abbrev cX13_of : ByteArray := prog_8_method_2_code
def yX13_of : MethodName := ⟨RX13, "of", "(LBlockingShop$Job;J)J"⟩
def dkwX13_of_4 : List UInt8 := [20, 0, 26, 20, 0, 28, 22, 8, 184, 0, 30, 184, 0, 36, 173]
abbrev dktX13_of_4 : List UInt8 := dkwX13_of_4 ++ []
def dkwX13_of_3 : List UInt8 := [105, 167, 0, 19, 22, 6, 9, 148, 154, 0, 7, 9, 167, 0, 8, 22, 4, 22, 6, 109, 55, 8]
abbrev dktX13_of_3 : List UInt8 := dkwX13_of_3 ++ dktX13_of_4
def dkwX13_of_2 : List UInt8 := [160, 0, 11, 22, 4, 22, 6, 101, 167, 0, 36, 42, 180, 0, 9, 16, 42, 160, 0, 11, 22, 4, 22, 6]
abbrev dktX13_of_2 : List UInt8 := dkwX13_of_2 ++ dktX13_of_3
def dkwX13_of_1 : List UInt8 := [180, 0, 9, 16, 43, 160, 0, 11, 22, 4, 22, 6, 97, 167, 0, 53, 42, 180, 0, 9, 16, 45]
abbrev dktX13_of_1 : List UInt8 := dkwX13_of_1 ++ dktX13_of_2
def dkwX13_of_0 : List UInt8 := [42, 180, 0, 15, 43, 32, 182, 0, 22, 55, 4, 42, 180, 0, 19, 43, 32, 182, 0, 22, 55, 6, 42]
abbrev dktX13_of_0 : List UInt8 := dkwX13_of_0 ++ dktX13_of_1
theorem dksX13_of_0 : cX13_of.data.toList.drop 0 = dktX13_of_0 := by decide +kernel
theorem dksX13_of_1 : cX13_of.data.toList.drop 23 = dktX13_of_1 := dk_seg dksX13_of_0 23 rfl rfl
theorem dksX13_of_2 : cX13_of.data.toList.drop 45 = dktX13_of_2 := dk_seg dksX13_of_1 22 rfl rfl
theorem dksX13_of_3 : cX13_of.data.toList.drop 69 = dktX13_of_3 := dk_seg dksX13_of_2 24 rfl rfl
theorem dksX13_of_4 : cX13_of.data.toList.drop 91 = dktX13_of_4 := dk_seg dksX13_of_3 22 rfl rfl
theorem dX13_of_0 : decode cX13_of 0 = .ok (.aload_n 0, 1) := dk_42 (dk_at dksX13_of_0 0 rfl rfl)
theorem dX13_of_1 : decode cX13_of 1 = .ok (.getfield 15, 3) := dk_180 0 15 (dk_at dksX13_of_0 1 rfl rfl)
theorem dX13_of_4 : decode cX13_of 4 = .ok (.aload_n 1, 1) := dk_43 (dk_at dksX13_of_0 4 rfl rfl)
theorem dX13_of_5 : decode cX13_of 5 = .ok (.lload_n 2, 1) := dk_32 (dk_at dksX13_of_0 5 rfl rfl)
theorem dX13_of_6 : decode cX13_of 6 = .ok (.invokevirtual 22, 3) := dk_182 0 22 (dk_at dksX13_of_0 6 rfl rfl)
theorem dX13_of_9 : decode cX13_of 9 = .ok (.lstore 4, 2) := dk_55 4 (dk_at dksX13_of_0 9 rfl rfl)
theorem dX13_of_11 : decode cX13_of 11 = .ok (.aload_n 0, 1) := dk_42 (dk_at dksX13_of_0 11 rfl rfl)
theorem dX13_of_12 : decode cX13_of 12 = .ok (.getfield 19, 3) := dk_180 0 19 (dk_at dksX13_of_0 12 rfl rfl)
theorem dX13_of_15 : decode cX13_of 15 = .ok (.aload_n 1, 1) := dk_43 (dk_at dksX13_of_0 15 rfl rfl)
theorem dX13_of_16 : decode cX13_of 16 = .ok (.lload_n 2, 1) := dk_32 (dk_at dksX13_of_0 16 rfl rfl)
theorem dX13_of_17 : decode cX13_of 17 = .ok (.invokevirtual 22, 3) := dk_182 0 22 (dk_at dksX13_of_0 17 rfl rfl)
theorem dX13_of_20 : decode cX13_of 20 = .ok (.lstore 6, 2) := dk_55 6 (dk_at dksX13_of_0 20 rfl rfl)
theorem dX13_of_22 : decode cX13_of 22 = .ok (.aload_n 0, 1) := dk_42 (dk_at dksX13_of_0 22 rfl rfl)
theorem dX13_of_23 : decode cX13_of 23 = .ok (.getfield 9, 3) := dk_180 0 9 (dk_at dksX13_of_1 0 rfl rfl)
theorem dX13_of_26 : decode cX13_of 26 = .ok (.bipush 43, 2) := dk_16 43 (dk_at dksX13_of_1 3 rfl rfl)
theorem dX13_of_28 : decode cX13_of 28 = .ok (.if_icmp .ne 11, 3) := dk_160 0 11 (dk_at dksX13_of_1 5 rfl rfl)
theorem dX13_of_31 : decode cX13_of 31 = .ok (.lload 4, 2) := dk_22 4 (dk_at dksX13_of_1 8 rfl rfl)
theorem dX13_of_33 : decode cX13_of 33 = .ok (.lload 6, 2) := dk_22 6 (dk_at dksX13_of_1 10 rfl rfl)
theorem dX13_of_35 : decode cX13_of 35 = .ok (.ladd, 1) := dk_97 (dk_at dksX13_of_1 12 rfl rfl)
theorem dX13_of_36 : decode cX13_of 36 = .ok (.goto 53, 3) := dk_167 0 53 (dk_at dksX13_of_1 13 rfl rfl)
theorem dX13_of_39 : decode cX13_of 39 = .ok (.aload_n 0, 1) := dk_42 (dk_at dksX13_of_1 16 rfl rfl)
theorem dX13_of_40 : decode cX13_of 40 = .ok (.getfield 9, 3) := dk_180 0 9 (dk_at dksX13_of_1 17 rfl rfl)
theorem dX13_of_43 : decode cX13_of 43 = .ok (.bipush 45, 2) := dk_16 45 (dk_at dksX13_of_1 20 rfl rfl)
theorem dX13_of_45 : decode cX13_of 45 = .ok (.if_icmp .ne 11, 3) := dk_160 0 11 (dk_at dksX13_of_2 0 rfl rfl)
theorem dX13_of_48 : decode cX13_of 48 = .ok (.lload 4, 2) := dk_22 4 (dk_at dksX13_of_2 3 rfl rfl)
theorem dX13_of_50 : decode cX13_of 50 = .ok (.lload 6, 2) := dk_22 6 (dk_at dksX13_of_2 5 rfl rfl)
theorem dX13_of_52 : decode cX13_of 52 = .ok (.lsub, 1) := dk_101 (dk_at dksX13_of_2 7 rfl rfl)
theorem dX13_of_53 : decode cX13_of 53 = .ok (.goto 36, 3) := dk_167 0 36 (dk_at dksX13_of_2 8 rfl rfl)
theorem dX13_of_56 : decode cX13_of 56 = .ok (.aload_n 0, 1) := dk_42 (dk_at dksX13_of_2 11 rfl rfl)
theorem dX13_of_57 : decode cX13_of 57 = .ok (.getfield 9, 3) := dk_180 0 9 (dk_at dksX13_of_2 12 rfl rfl)
theorem dX13_of_60 : decode cX13_of 60 = .ok (.bipush 42, 2) := dk_16 42 (dk_at dksX13_of_2 15 rfl rfl)
theorem dX13_of_62 : decode cX13_of 62 = .ok (.if_icmp .ne 11, 3) := dk_160 0 11 (dk_at dksX13_of_2 17 rfl rfl)
theorem dX13_of_65 : decode cX13_of 65 = .ok (.lload 4, 2) := dk_22 4 (dk_at dksX13_of_2 20 rfl rfl)
theorem dX13_of_67 : decode cX13_of 67 = .ok (.lload 6, 2) := dk_22 6 (dk_at dksX13_of_2 22 rfl rfl)
theorem dX13_of_69 : decode cX13_of 69 = .ok (.lmul, 1) := dk_105 (dk_at dksX13_of_3 0 rfl rfl)
theorem dX13_of_70 : decode cX13_of 70 = .ok (.goto 19, 3) := dk_167 0 19 (dk_at dksX13_of_3 1 rfl rfl)
theorem dX13_of_73 : decode cX13_of 73 = .ok (.lload 6, 2) := dk_22 6 (dk_at dksX13_of_3 4 rfl rfl)
theorem dX13_of_75 : decode cX13_of 75 = .ok (.lconst 0, 1) := dk_9 (dk_at dksX13_of_3 6 rfl rfl)
theorem dX13_of_76 : decode cX13_of 76 = .ok (.lcmp, 1) := dk_148 (dk_at dksX13_of_3 7 rfl rfl)
theorem dX13_of_77 : decode cX13_of 77 = .ok (.ifCond .ne 7, 3) := dk_154 0 7 (dk_at dksX13_of_3 8 rfl rfl)
theorem dX13_of_80 : decode cX13_of 80 = .ok (.lconst 0, 1) := dk_9 (dk_at dksX13_of_3 11 rfl rfl)
theorem dX13_of_81 : decode cX13_of 81 = .ok (.goto 8, 3) := dk_167 0 8 (dk_at dksX13_of_3 12 rfl rfl)
theorem dX13_of_84 : decode cX13_of 84 = .ok (.lload 4, 2) := dk_22 4 (dk_at dksX13_of_3 15 rfl rfl)
theorem dX13_of_86 : decode cX13_of 86 = .ok (.lload 6, 2) := dk_22 6 (dk_at dksX13_of_3 17 rfl rfl)
theorem dX13_of_88 : decode cX13_of 88 = .ok (.ldiv, 1) := dk_109 (dk_at dksX13_of_3 19 rfl rfl)
theorem dX13_of_89 : decode cX13_of 89 = .ok (.lstore 8, 2) := dk_55 8 (dk_at dksX13_of_3 20 rfl rfl)
theorem dX13_of_91 : decode cX13_of 91 = .ok (.ldc2_w 26, 3) := dk_20 0 26 (dk_at dksX13_of_4 0 rfl rfl)
theorem dX13_of_94 : decode cX13_of 94 = .ok (.ldc2_w 28, 3) := dk_20 0 28 (dk_at dksX13_of_4 3 rfl rfl)
theorem dX13_of_97 : decode cX13_of 97 = .ok (.lload 8, 2) := dk_22 8 (dk_at dksX13_of_4 6 rfl rfl)
theorem dX13_of_99 : decode cX13_of 99 = .ok (.invokestatic 30, 3) := dk_184 0 30 (dk_at dksX13_of_4 8 rfl rfl)
theorem dX13_of_102 : decode cX13_of 102 = .ok (.invokestatic 36, 3) := dk_184 0 36 (dk_at dksX13_of_4 11 rfl rfl)
theorem dX13_of_105 : decode cX13_of 105 = .ok (.lreturn, 1) := dk_173 (dk_at dksX13_of_4 14 rfl rfl)
abbrev cX13_init : ByteArray := prog_8_method_1_code
def yX13_init : MethodName := ⟨RX13, "<init>", "(ILBlockingShop$Node;LBlockingShop$Node;)V"⟩
def dkwX13_init_0 : List UInt8 := [42, 183, 0, 3, 42, 27, 181, 0, 9, 42, 44, 181, 0, 15, 42, 45, 181, 0, 19, 177]
abbrev dktX13_init_0 : List UInt8 := dkwX13_init_0 ++ []
theorem dksX13_init_0 : cX13_init.data.toList.drop 0 = dktX13_init_0 := by decide +kernel
theorem dX13_init_0 : decode cX13_init 0 = .ok (.aload_n 0, 1) := dk_42 (dk_at dksX13_init_0 0 rfl rfl)
theorem dX13_init_1 : decode cX13_init 1 = .ok (.invokespecial 3, 3) := dk_183 0 3 (dk_at dksX13_init_0 1 rfl rfl)
theorem dX13_init_4 : decode cX13_init 4 = .ok (.aload_n 0, 1) := dk_42 (dk_at dksX13_init_0 4 rfl rfl)
theorem dX13_init_5 : decode cX13_init 5 = .ok (.iload_n 1, 1) := dk_27 (dk_at dksX13_init_0 5 rfl rfl)
theorem dX13_init_6 : decode cX13_init 6 = .ok (.putfield 9, 3) := dk_181 0 9 (dk_at dksX13_init_0 6 rfl rfl)
theorem dX13_init_9 : decode cX13_init 9 = .ok (.aload_n 0, 1) := dk_42 (dk_at dksX13_init_0 9 rfl rfl)
theorem dX13_init_10 : decode cX13_init 10 = .ok (.aload_n 2, 1) := dk_44 (dk_at dksX13_init_0 10 rfl rfl)
theorem dX13_init_11 : decode cX13_init 11 = .ok (.putfield 15, 3) := dk_181 0 15 (dk_at dksX13_init_0 11 rfl rfl)
theorem dX13_init_14 : decode cX13_init 14 = .ok (.aload_n 0, 1) := dk_42 (dk_at dksX13_init_0 14 rfl rfl)
theorem dX13_init_15 : decode cX13_init 15 = .ok (.aload_n 3, 1) := dk_45 (dk_at dksX13_init_0 15 rfl rfl)
theorem dX13_init_16 : decode cX13_init 16 = .ok (.putfield 19, 3) := dk_181 0 19 (dk_at dksX13_init_0 16 rfl rfl)
theorem dX13_init_19 : decode cX13_init 19 = .ok (.return_, 1) := dk_177 (dk_at dksX13_init_0 19 rfl rfl)
theorem q144 : (Jvm.Cond.initialized "BlockingShop$Operation") ∈ lw_all := lw_g (lw_at lw_m1 50 rfl) rfl
theorem q899 : (Jvm.Cond.selects "BlockingShop$Operation" ({ cls := "BlockingShop$Node", name := "of", desc := "(LBlockingShop$Job;J)J" } : Jvm.MethodName) ({ cls := "BlockingShop$Operation", name := "of", desc := "(LBlockingShop$Job;J)J" } : Jvm.MethodName)) ∈ lw_all := lw_g (lw_at lw_m4 85 rfl) rfl
theorem q900 : (Jvm.Cond.instanceMethod ({ cls := "BlockingShop$Operation", name := "of", desc := "(LBlockingShop$Job;J)J" } : Jvm.MethodName)) ∈ lw_all := lw_g (lw_at lw_m4 86 rfl) rfl
theorem q901 : (Jvm.Cond.code ({ cls := "BlockingShop$Operation", name := "of", desc := "(LBlockingShop$Job;J)J" } : Jvm.MethodName) prog_8_method_2_code (10 : Nat) (Option.some Jvm.ClassFile.FieldType.long)) ∈ lw_all := lw_g (lw_at lw_m4 87 rfl) rfl
theorem q902 : (Jvm.Cond.methodLink "BlockingShop$Operation" (22 : Nat) ({ cls := "BlockingShop$Node", name := "of", desc := "(LBlockingShop$Job;J)J" } : Jvm.MethodName)) ∈ lw_all := lw_g (lw_at lw_m4 88 rfl) rfl
theorem q977 : (Jvm.Cond.constantLong "BlockingShop$Operation" (26 : Nat) (-1000000 : Int64)) ∈ lw_all := lw_g (lw_at lw_m4 163 rfl) rfl
theorem q978 : (Jvm.Cond.constantLong "BlockingShop$Operation" (28 : Nat) (1000000 : Int64)) ∈ lw_all := lw_g (lw_at lw_m4 164 rfl) rfl
theorem q979 : (Jvm.Cond.methodLink "BlockingShop$Operation" (30 : Nat) ({ cls := "java/lang/Math", name := "min", desc := "(JJ)J" } : Jvm.MethodName)) ∈ lw_all := lw_g (lw_at lw_m4 165 rfl) rfl
theorem q982 : (Jvm.Cond.methodLink "BlockingShop$Operation" (36 : Nat) ({ cls := "java/lang/Math", name := "max", desc := "(JJ)J" } : Jvm.MethodName)) ∈ lw_all := lw_g (lw_at lw_m4 168 rfl) rfl
theorem q1487 : (Jvm.Cond.selects "BlockingShop$Operation" ({ cls := "java/lang/Object", name := "getClass", desc := "()Ljava/lang/Class;" } : Jvm.MethodName) ({ cls := "java/lang/Object", name := "getClass", desc := "()Ljava/lang/Class;" } : Jvm.MethodName)) ∈ lw_all := lw_g (lw_at lw_m6 193 rfl) rfl
theorem q2380 : (Jvm.Cond.selects "BlockingShop$Operation" ({ cls := "java/lang/Object", name := "equals", desc := "(Ljava/lang/Object;)Z" } : Jvm.MethodName) ({ cls := "java/lang/Object", name := "equals", desc := "(Ljava/lang/Object;)Z" } : Jvm.MethodName)) ∈ lw_all := lw_g (lw_at lw_m10 126 rfl) rfl
theorem q2433 : (Jvm.Cond.instantiable "BlockingShop$Operation" (3 : Nat)) ∈ lw_all := lw_g (lw_at lw_m10 179 rfl) rfl
theorem q2435 : (Jvm.Cond.instanceMethod ({ cls := "BlockingShop$Operation", name := "<init>", desc := "(ILBlockingShop$Node;LBlockingShop$Node;)V" } : Jvm.MethodName)) ∈ lw_all := lw_g (lw_at lw_m10 181 rfl) rfl
theorem q2436 : (Jvm.Cond.code ({ cls := "BlockingShop$Operation", name := "<init>", desc := "(ILBlockingShop$Node;LBlockingShop$Node;)V" } : Jvm.MethodName) prog_8_method_1_code (4 : Nat) (Option.none : Option Jvm.ClassFile.FieldType)) ∈ lw_all := lw_g (lw_at lw_m10 182 rfl) rfl
theorem q2437 : (Jvm.Cond.methodLinkNest "BlockingShop$Operation" (3 : Nat) ({ cls := "BlockingShop$Node", name := "<init>", desc := "()V" } : Jvm.MethodName) "BlockingShop") ∈ lw_tbl := lw_at lw_m10 183 rfl
theorem q2438 : (Jvm.Cond.fieldLink "BlockingShop$Operation" (9 : Nat) "BlockingShop$Operation" "sign" "I") ∈ lw_all := lw_g (lw_at lw_m10 184 rfl) rfl
theorem q2439 : (Jvm.Cond.fieldLink "BlockingShop$Operation" (15 : Nat) "BlockingShop$Operation" "left" "LBlockingShop$Node;") ∈ lw_all := lw_g (lw_at lw_m10 185 rfl) rfl
theorem q2440 : (Jvm.Cond.fieldLink "BlockingShop$Operation" (19 : Nat) "BlockingShop$Operation" "right" "LBlockingShop$Node;") ∈ lw_all := lw_g (lw_at lw_m10 186 rfl) rfl
theorem q2441 : (Jvm.Cond.laysFinal "BlockingShop$Operation" "BlockingShop$Operation" "sign" "I") ∈ lw_all := lw_g (lw_at lw_m10 187 rfl) rfl
theorem q2442 : (Jvm.Cond.soleField "BlockingShop$Operation" "sign") ∈ lw_all := lw_g (lw_at lw_m10 188 rfl) rfl
theorem q2443 : (Jvm.Cond.laysFinal "BlockingShop$Operation" "BlockingShop$Operation" "left" "LBlockingShop$Node;") ∈ lw_all := lw_g (lw_at lw_m10 189 rfl) rfl
theorem q2444 : (Jvm.Cond.soleField "BlockingShop$Operation" "left") ∈ lw_all := lw_g (lw_at lw_m10 190 rfl) rfl
theorem q2445 : (Jvm.Cond.laysFinal "BlockingShop$Operation" "BlockingShop$Operation" "right" "LBlockingShop$Node;") ∈ lw_all := lw_g (lw_at lw_m10 191 rfl) rfl
theorem q2446 : (Jvm.Cond.soleField "BlockingShop$Operation" "right") ∈ lw_all := lw_g (lw_at lw_m10 192 rfl) rfl
theorem q2447 : (Jvm.Cond.superclass "BlockingShop$Operation" "BlockingShop$Node") ∈ lw_all := lw_g (lw_at lw_m10 193 rfl) rfl
theorem q3168 : (Jvm.Cond.castable "BlockingShop$Operation" "java/lang/Object") ∈ lw_tbl := lw_at lw_m13 194 rfl
theorem in_X13 : ∀ w ∈ wsX130, w ∈ lw_all := lw_in wsX130 [2441, 2443, 2445] (by decide +kernel) (by decide +kernel)

/-! BlockingShop$Plan$1 -/
set_option maxRecDepth 100000
def RX14 : String := "BlockingShop$Plan$1"
def TX14 : u_T := fun k => match k with
  | 0 => ("BlockingShop$Plan$1", "seen", "Ljava/util/BitSet;", true)
  | 1 => ("BlockingShop$Plan$1", "next", "I", false)
  | _ => ("BlockingShop$Plan$1", "this$0", "LBlockingShop$Plan;", true)
def tyX14 : Nat → FieldType := fun k => match k with
  | 0 => .object "java/util/BitSet"
  | 1 => .int
  | _ => .object "BlockingShop$Plan"
abbrev wsX140 : List Cond := u_ws RX14 TX14 3
theorem nmX14 : ∀ a, a < 3 → ∀ b, b < 3 → a ≠ b → (TX14 a).2.1 ≠ (TX14 b).2.1 := by decide +kernel
theorem tyX14_ok : ∀ k, k < 3 → parseFieldDescriptor (TX14 k).2.2.1 = some (tyX14 k) := by decide +kernel
abbrev cX14_init : ByteArray := prog_11_method_1_code
def yX14_init : MethodName := ⟨RX14, "<init>", "(LBlockingShop$Plan;)V"⟩
def dkwX14_init_1 : List UInt8 := [180, 0, 3, 182, 0, 22, 181, 0, 28, 177]
abbrev dktX14_init_1 : List UInt8 := dkwX14_init_1 ++ []
def dkwX14_init_0 : List UInt8 := [42, 43, 181, 0, 3, 42, 183, 0, 9, 42, 187, 0, 15, 89, 183, 0, 17, 181, 0, 18, 42, 42]
abbrev dktX14_init_0 : List UInt8 := dkwX14_init_0 ++ dktX14_init_1
theorem dksX14_init_0 : cX14_init.data.toList.drop 0 = dktX14_init_0 := by decide +kernel
theorem dksX14_init_1 : cX14_init.data.toList.drop 22 = dktX14_init_1 := dk_seg dksX14_init_0 22 rfl rfl
theorem dX14_init_0 : decode cX14_init 0 = .ok (.aload_n 0, 1) := dk_42 (dk_at dksX14_init_0 0 rfl rfl)
theorem dX14_init_1 : decode cX14_init 1 = .ok (.aload_n 1, 1) := dk_43 (dk_at dksX14_init_0 1 rfl rfl)
theorem dX14_init_2 : decode cX14_init 2 = .ok (.putfield 3, 3) := dk_181 0 3 (dk_at dksX14_init_0 2 rfl rfl)
theorem dX14_init_5 : decode cX14_init 5 = .ok (.aload_n 0, 1) := dk_42 (dk_at dksX14_init_0 5 rfl rfl)
theorem dX14_init_6 : decode cX14_init 6 = .ok (.invokespecial 9, 3) := dk_183 0 9 (dk_at dksX14_init_0 6 rfl rfl)
theorem dX14_init_9 : decode cX14_init 9 = .ok (.aload_n 0, 1) := dk_42 (dk_at dksX14_init_0 9 rfl rfl)
theorem dX14_init_10 : decode cX14_init 10 = .ok (.new 15, 3) := dk_187 0 15 (dk_at dksX14_init_0 10 rfl rfl)
theorem dX14_init_13 : decode cX14_init 13 = .ok (.dup, 1) := dk_89 (dk_at dksX14_init_0 13 rfl rfl)
theorem dX14_init_14 : decode cX14_init 14 = .ok (.invokespecial 17, 3) := dk_183 0 17 (dk_at dksX14_init_0 14 rfl rfl)
theorem dX14_init_17 : decode cX14_init 17 = .ok (.putfield 18, 3) := dk_181 0 18 (dk_at dksX14_init_0 17 rfl rfl)
theorem dX14_init_20 : decode cX14_init 20 = .ok (.aload_n 0, 1) := dk_42 (dk_at dksX14_init_0 20 rfl rfl)
theorem dX14_init_21 : decode cX14_init 21 = .ok (.aload_n 0, 1) := dk_42 (dk_at dksX14_init_0 21 rfl rfl)
theorem dX14_init_22 : decode cX14_init 22 = .ok (.getfield 3, 3) := dk_180 0 3 (dk_at dksX14_init_1 0 rfl rfl)
theorem dX14_init_25 : decode cX14_init 25 = .ok (.invokevirtual 22, 3) := dk_182 0 22 (dk_at dksX14_init_1 3 rfl rfl)
theorem dX14_init_28 : decode cX14_init 28 = .ok (.putfield 28, 3) := dk_181 0 28 (dk_at dksX14_init_1 6 rfl rfl)
theorem dX14_init_31 : decode cX14_init 31 = .ok (.return_, 1) := dk_177 (dk_at dksX14_init_1 9 rfl rfl)
abbrev cX14_hasNext : ByteArray := prog_11_method_2_code
def yX14_hasNext : MethodName := ⟨RX14, "hasNext", "()Z"⟩
def dkwX14_hasNext_1 : List UInt8 := [167, 0, 4, 3, 172]
abbrev dktX14_hasNext_1 : List UInt8 := dkwX14_hasNext_1 ++ []
def dkwX14_hasNext_0 : List UInt8 := [42, 180, 0, 28, 2, 159, 0, 21, 42, 180, 0, 18, 42, 180, 0, 28, 182, 0, 32, 154, 0, 7, 4]
abbrev dktX14_hasNext_0 : List UInt8 := dkwX14_hasNext_0 ++ dktX14_hasNext_1
theorem dksX14_hasNext_0 : cX14_hasNext.data.toList.drop 0 = dktX14_hasNext_0 := by decide +kernel
theorem dksX14_hasNext_1 : cX14_hasNext.data.toList.drop 23 = dktX14_hasNext_1 := dk_seg dksX14_hasNext_0 23 rfl rfl
theorem dX14_hasNext_0 : decode cX14_hasNext 0 = .ok (.aload_n 0, 1) := dk_42 (dk_at dksX14_hasNext_0 0 rfl rfl)
theorem dX14_hasNext_1 : decode cX14_hasNext 1 = .ok (.getfield 28, 3) := dk_180 0 28 (dk_at dksX14_hasNext_0 1 rfl rfl)
theorem dX14_hasNext_4 : decode cX14_hasNext 4 = .ok (.iconst (-1), 1) := dk_2 (dk_at dksX14_hasNext_0 4 rfl rfl)
theorem dX14_hasNext_5 : decode cX14_hasNext 5 = .ok (.if_icmp .eq 21, 3) := dk_159 0 21 (dk_at dksX14_hasNext_0 5 rfl rfl)
theorem dX14_hasNext_8 : decode cX14_hasNext 8 = .ok (.aload_n 0, 1) := dk_42 (dk_at dksX14_hasNext_0 8 rfl rfl)
theorem dX14_hasNext_9 : decode cX14_hasNext 9 = .ok (.getfield 18, 3) := dk_180 0 18 (dk_at dksX14_hasNext_0 9 rfl rfl)
theorem dX14_hasNext_12 : decode cX14_hasNext 12 = .ok (.aload_n 0, 1) := dk_42 (dk_at dksX14_hasNext_0 12 rfl rfl)
theorem dX14_hasNext_13 : decode cX14_hasNext 13 = .ok (.getfield 28, 3) := dk_180 0 28 (dk_at dksX14_hasNext_0 13 rfl rfl)
theorem dX14_hasNext_16 : decode cX14_hasNext 16 = .ok (.invokevirtual 32, 3) := dk_182 0 32 (dk_at dksX14_hasNext_0 16 rfl rfl)
theorem dX14_hasNext_19 : decode cX14_hasNext 19 = .ok (.ifCond .ne 7, 3) := dk_154 0 7 (dk_at dksX14_hasNext_0 19 rfl rfl)
theorem dX14_hasNext_22 : decode cX14_hasNext 22 = .ok (.iconst 1, 1) := dk_4 (dk_at dksX14_hasNext_0 22 rfl rfl)
theorem dX14_hasNext_23 : decode cX14_hasNext 23 = .ok (.goto 4, 3) := dk_167 0 4 (dk_at dksX14_hasNext_1 0 rfl rfl)
theorem dX14_hasNext_26 : decode cX14_hasNext 26 = .ok (.iconst 0, 1) := dk_3 (dk_at dksX14_hasNext_1 3 rfl rfl)
theorem dX14_hasNext_27 : decode cX14_hasNext 27 = .ok (.ireturn, 1) := dk_172 (dk_at dksX14_hasNext_1 4 rfl rfl)
abbrev cX14_next : ByteArray := prog_11_method_4_code
def yX14_next : MethodName := ⟨RX14, "next", "()Ljava/lang/Object;"⟩
theorem dX14_next_0 : decode cX14_next 0 = .ok (.aload_n 0, 1) := by decide +kernel
theorem dX14_next_1 : decode cX14_next 1 = .ok (.invokevirtual 57, 3) := by decide +kernel
theorem dX14_next_4 : decode cX14_next 4 = .ok (.areturn, 1) := by decide +kernel
abbrev cX14_next_2 : ByteArray := prog_11_method_3_code
def yX14_next_2 : MethodName := ⟨RX14, "next", "()Ljava/lang/Integer;"⟩
def dkwX14_next_2_1 : List UInt8 := [27, 182, 0, 43, 42, 42, 180, 0, 3, 27, 182, 0, 47, 181, 0, 28, 27, 184, 0, 51, 176]
abbrev dktX14_next_2_1 : List UInt8 := dkwX14_next_2_1 ++ []
def dkwX14_next_2_0 : List UInt8 := [42, 182, 0, 36, 154, 0, 11, 187, 0, 40, 89, 183, 0, 42, 191, 42, 180, 0, 28, 60, 42, 180, 0, 18]
abbrev dktX14_next_2_0 : List UInt8 := dkwX14_next_2_0 ++ dktX14_next_2_1
theorem dksX14_next_2_0 : cX14_next_2.data.toList.drop 0 = dktX14_next_2_0 := by decide +kernel
theorem dksX14_next_2_1 : cX14_next_2.data.toList.drop 24 = dktX14_next_2_1 := dk_seg dksX14_next_2_0 24 rfl rfl
theorem dX14_next_2_0 : decode cX14_next_2 0 = .ok (.aload_n 0, 1) := dk_42 (dk_at dksX14_next_2_0 0 rfl rfl)
theorem dX14_next_2_1 : decode cX14_next_2 1 = .ok (.invokevirtual 36, 3) := dk_182 0 36 (dk_at dksX14_next_2_0 1 rfl rfl)
theorem dX14_next_2_4 : decode cX14_next_2 4 = .ok (.ifCond .ne 11, 3) := dk_154 0 11 (dk_at dksX14_next_2_0 4 rfl rfl)
theorem dX14_next_2_7 : decode cX14_next_2 7 = .ok (.new 40, 3) := dk_187 0 40 (dk_at dksX14_next_2_0 7 rfl rfl)
theorem dX14_next_2_10 : decode cX14_next_2 10 = .ok (.dup, 1) := dk_89 (dk_at dksX14_next_2_0 10 rfl rfl)
theorem dX14_next_2_11 : decode cX14_next_2 11 = .ok (.invokespecial 42, 3) := dk_183 0 42 (dk_at dksX14_next_2_0 11 rfl rfl)
theorem dX14_next_2_14 : decode cX14_next_2 14 = .ok (.athrow, 1) := dk_191 (dk_at dksX14_next_2_0 14 rfl rfl)
theorem dX14_next_2_15 : decode cX14_next_2 15 = .ok (.aload_n 0, 1) := dk_42 (dk_at dksX14_next_2_0 15 rfl rfl)
theorem dX14_next_2_16 : decode cX14_next_2 16 = .ok (.getfield 28, 3) := dk_180 0 28 (dk_at dksX14_next_2_0 16 rfl rfl)
theorem dX14_next_2_19 : decode cX14_next_2 19 = .ok (.istore_n 1, 1) := dk_60 (dk_at dksX14_next_2_0 19 rfl rfl)
theorem dX14_next_2_20 : decode cX14_next_2 20 = .ok (.aload_n 0, 1) := dk_42 (dk_at dksX14_next_2_0 20 rfl rfl)
theorem dX14_next_2_21 : decode cX14_next_2 21 = .ok (.getfield 18, 3) := dk_180 0 18 (dk_at dksX14_next_2_0 21 rfl rfl)
theorem dX14_next_2_24 : decode cX14_next_2 24 = .ok (.iload_n 1, 1) := dk_27 (dk_at dksX14_next_2_1 0 rfl rfl)
theorem dX14_next_2_25 : decode cX14_next_2 25 = .ok (.invokevirtual 43, 3) := dk_182 0 43 (dk_at dksX14_next_2_1 1 rfl rfl)
theorem dX14_next_2_28 : decode cX14_next_2 28 = .ok (.aload_n 0, 1) := dk_42 (dk_at dksX14_next_2_1 4 rfl rfl)
theorem dX14_next_2_29 : decode cX14_next_2 29 = .ok (.aload_n 0, 1) := dk_42 (dk_at dksX14_next_2_1 5 rfl rfl)
theorem dX14_next_2_30 : decode cX14_next_2 30 = .ok (.getfield 3, 3) := dk_180 0 3 (dk_at dksX14_next_2_1 6 rfl rfl)
theorem dX14_next_2_33 : decode cX14_next_2 33 = .ok (.iload_n 1, 1) := dk_27 (dk_at dksX14_next_2_1 9 rfl rfl)
theorem dX14_next_2_34 : decode cX14_next_2 34 = .ok (.invokevirtual 47, 3) := dk_182 0 47 (dk_at dksX14_next_2_1 10 rfl rfl)
theorem dX14_next_2_37 : decode cX14_next_2 37 = .ok (.putfield 28, 3) := dk_181 0 28 (dk_at dksX14_next_2_1 13 rfl rfl)
theorem dX14_next_2_40 : decode cX14_next_2 40 = .ok (.iload_n 1, 1) := dk_27 (dk_at dksX14_next_2_1 16 rfl rfl)
theorem dX14_next_2_41 : decode cX14_next_2 41 = .ok (.invokestatic 51, 3) := dk_184 0 51 (dk_at dksX14_next_2_1 17 rfl rfl)
theorem dX14_next_2_44 : decode cX14_next_2 44 = .ok (.areturn, 1) := dk_176 (dk_at dksX14_next_2_1 20 rfl rfl)
theorem q150 : (Jvm.Cond.initialized "BlockingShop$Plan$1") ∈ lw_all := lw_g (lw_at lw_m1 56 rfl) rfl
theorem q1019 : (Jvm.Cond.instantiable "BlockingShop$Plan$1" (3 : Nat)) ∈ lw_all := lw_g (lw_at lw_m4 205 rfl) rfl
theorem q1021 : (Jvm.Cond.instanceMethod ({ cls := "BlockingShop$Plan$1", name := "<init>", desc := "(LBlockingShop$Plan;)V" } : Jvm.MethodName)) ∈ lw_all := lw_g (lw_at lw_m4 207 rfl) rfl
theorem q1022 : (Jvm.Cond.code ({ cls := "BlockingShop$Plan$1", name := "<init>", desc := "(LBlockingShop$Plan;)V" } : Jvm.MethodName) prog_11_method_1_code (2 : Nat) (Option.none : Option Jvm.ClassFile.FieldType)) ∈ lw_all := lw_g (lw_at lw_m4 208 rfl) rfl
theorem q1023 : (Jvm.Cond.methodLink "BlockingShop$Plan$1" (9 : Nat) ({ cls := "java/lang/Object", name := "<init>", desc := "()V" } : Jvm.MethodName)) ∈ lw_all := lw_g (lw_at lw_m4 209 rfl) rfl
theorem q1024 : (Jvm.Cond.classLink "BlockingShop$Plan$1" (15 : Nat) "java/util/BitSet") ∈ lw_all := lw_g (lw_at lw_m4 210 rfl) rfl
theorem q1026 : (Jvm.Cond.methodLink "BlockingShop$Plan$1" (17 : Nat) ({ cls := "java/util/BitSet", name := "<init>", desc := "()V" } : Jvm.MethodName)) ∈ lw_all := lw_g (lw_at lw_m4 212 rfl) rfl
theorem q1048 : (Jvm.Cond.methodLinkNest "BlockingShop$Plan$1" (22 : Nat) ({ cls := "BlockingShop$Plan", name := "last", desc := "()I" } : Jvm.MethodName) "BlockingShop") ∈ lw_tbl := lw_at lw_m4 234 rfl
theorem q1052 : (Jvm.Cond.fieldLink "BlockingShop$Plan$1" (18 : Nat) "BlockingShop$Plan$1" "seen" "Ljava/util/BitSet;") ∈ lw_all := lw_g (lw_at lw_m4 238 rfl) rfl
theorem q1053 : (Jvm.Cond.fieldLink "BlockingShop$Plan$1" (28 : Nat) "BlockingShop$Plan$1" "next" "I") ∈ lw_all := lw_g (lw_at lw_m4 239 rfl) rfl
theorem q1054 : (Jvm.Cond.fieldLink "BlockingShop$Plan$1" (3 : Nat) "BlockingShop$Plan$1" "this$0" "LBlockingShop$Plan;") ∈ lw_all := lw_g (lw_at lw_m5 0 rfl) rfl
theorem q1055 : (Jvm.Cond.laysFinal "BlockingShop$Plan$1" "BlockingShop$Plan$1" "seen" "Ljava/util/BitSet;") ∈ lw_all := lw_g (lw_at lw_m5 1 rfl) rfl
theorem q1056 : (Jvm.Cond.soleField "BlockingShop$Plan$1" "seen") ∈ lw_all := lw_g (lw_at lw_m5 2 rfl) rfl
theorem q1057 : (Jvm.Cond.lays "BlockingShop$Plan$1" "BlockingShop$Plan$1" "next" "I") ∈ lw_all := lw_g (lw_at lw_m5 3 rfl) rfl
theorem q1058 : (Jvm.Cond.soleField "BlockingShop$Plan$1" "next") ∈ lw_all := lw_g (lw_at lw_m5 4 rfl) rfl
theorem q1059 : (Jvm.Cond.laysFinal "BlockingShop$Plan$1" "BlockingShop$Plan$1" "this$0" "LBlockingShop$Plan;") ∈ lw_all := lw_g (lw_at lw_m5 5 rfl) rfl
theorem q1060 : (Jvm.Cond.soleField "BlockingShop$Plan$1" "this$0") ∈ lw_all := lw_g (lw_at lw_m5 6 rfl) rfl
theorem q1061 : (Jvm.Cond.superclass "BlockingShop$Plan$1" "java/lang/Object") ∈ lw_all := lw_g (lw_at lw_m5 7 rfl) rfl
theorem q1066 : (Jvm.Cond.castable "BlockingShop$Plan$1" "java/util/Iterator") ∈ lw_tbl := lw_at lw_m5 12 rfl
theorem q1067 : (Jvm.Cond.selects "BlockingShop$Plan$1" ({ cls := "java/util/Iterator", name := "hasNext", desc := "()Z" } : Jvm.MethodName) ({ cls := "BlockingShop$Plan$1", name := "hasNext", desc := "()Z" } : Jvm.MethodName)) ∈ lw_all := lw_g (lw_at lw_m5 13 rfl) rfl
theorem q1068 : (Jvm.Cond.unhidden "BlockingShop$Plan$1" "hasNext" "()Z") ∈ lw_tbl := lw_at lw_m5 14 rfl
theorem q1069 : (Jvm.Cond.instanceMethod ({ cls := "BlockingShop$Plan$1", name := "hasNext", desc := "()Z" } : Jvm.MethodName)) ∈ lw_all := lw_g (lw_at lw_m5 15 rfl) rfl
theorem q1070 : (Jvm.Cond.publicMethod ({ cls := "BlockingShop$Plan$1", name := "hasNext", desc := "()Z" } : Jvm.MethodName)) ∈ lw_tbl := lw_at lw_m5 16 rfl
theorem q1071 : (Jvm.Cond.code ({ cls := "BlockingShop$Plan$1", name := "hasNext", desc := "()Z" } : Jvm.MethodName) prog_11_method_2_code (1 : Nat) (Option.some Jvm.ClassFile.FieldType.boolean)) ∈ lw_all := lw_g (lw_at lw_m5 17 rfl) rfl
theorem q1072 : (Jvm.Cond.methodLink "BlockingShop$Plan$1" (32 : Nat) ({ cls := "java/util/BitSet", name := "get", desc := "(I)Z" } : Jvm.MethodName)) ∈ lw_all := lw_g (lw_at lw_m5 18 rfl) rfl
theorem q1125 : (Jvm.Cond.selects "BlockingShop$Plan$1" ({ cls := "java/util/Iterator", name := "next", desc := "()Ljava/lang/Object;" } : Jvm.MethodName) ({ cls := "BlockingShop$Plan$1", name := "next", desc := "()Ljava/lang/Object;" } : Jvm.MethodName)) ∈ lw_all := lw_g (lw_at lw_m5 71 rfl) rfl
theorem q1126 : (Jvm.Cond.unhidden "BlockingShop$Plan$1" "next" "()Ljava/lang/Object;") ∈ lw_tbl := lw_at lw_m5 72 rfl
theorem q1127 : (Jvm.Cond.instanceMethod ({ cls := "BlockingShop$Plan$1", name := "next", desc := "()Ljava/lang/Object;" } : Jvm.MethodName)) ∈ lw_all := lw_g (lw_at lw_m5 73 rfl) rfl
theorem q1128 : (Jvm.Cond.publicMethod ({ cls := "BlockingShop$Plan$1", name := "next", desc := "()Ljava/lang/Object;" } : Jvm.MethodName)) ∈ lw_tbl := lw_at lw_m5 74 rfl
theorem q1129 : (Jvm.Cond.code ({ cls := "BlockingShop$Plan$1", name := "next", desc := "()Ljava/lang/Object;" } : Jvm.MethodName) prog_11_method_4_code (1 : Nat) (Option.some (Jvm.ClassFile.FieldType.object "java/lang/Object"))) ∈ lw_all := lw_g (lw_at lw_m5 75 rfl) rfl
theorem q1130 : (Jvm.Cond.methodLink "BlockingShop$Plan$1" (57 : Nat) ({ cls := "BlockingShop$Plan$1", name := "next", desc := "()Ljava/lang/Integer;" } : Jvm.MethodName)) ∈ lw_all := lw_g (lw_at lw_m5 76 rfl) rfl
theorem q1131 : (Jvm.Cond.instanceMethod ({ cls := "BlockingShop$Plan$1", name := "next", desc := "()Ljava/lang/Integer;" } : Jvm.MethodName)) ∈ lw_all := lw_g (lw_at lw_m5 77 rfl) rfl
theorem q1132 : (Jvm.Cond.selects "BlockingShop$Plan$1" ({ cls := "BlockingShop$Plan$1", name := "next", desc := "()Ljava/lang/Integer;" } : Jvm.MethodName) ({ cls := "BlockingShop$Plan$1", name := "next", desc := "()Ljava/lang/Integer;" } : Jvm.MethodName)) ∈ lw_all := lw_g (lw_at lw_m5 78 rfl) rfl
theorem q1133 : (Jvm.Cond.code ({ cls := "BlockingShop$Plan$1", name := "next", desc := "()Ljava/lang/Integer;" } : Jvm.MethodName) prog_11_method_3_code (2 : Nat) (Option.some (Jvm.ClassFile.FieldType.object "java/lang/Integer"))) ∈ lw_all := lw_g (lw_at lw_m5 79 rfl) rfl
theorem q1134 : (Jvm.Cond.methodLink "BlockingShop$Plan$1" (36 : Nat) ({ cls := "BlockingShop$Plan$1", name := "hasNext", desc := "()Z" } : Jvm.MethodName)) ∈ lw_all := lw_g (lw_at lw_m5 80 rfl) rfl
theorem q1135 : (Jvm.Cond.classLink "BlockingShop$Plan$1" (40 : Nat) "java/util/NoSuchElementException") ∈ lw_all := lw_g (lw_at lw_m5 81 rfl) rfl
theorem q1144 : (Jvm.Cond.methodLink "BlockingShop$Plan$1" (42 : Nat) ({ cls := "java/util/NoSuchElementException", name := "<init>", desc := "()V" } : Jvm.MethodName)) ∈ lw_all := lw_g (lw_at lw_m5 90 rfl) rfl
theorem q1156 : (Jvm.Cond.methodLink "BlockingShop$Plan$1" (43 : Nat) ({ cls := "java/util/BitSet", name := "set", desc := "(I)V" } : Jvm.MethodName)) ∈ lw_all := lw_g (lw_at lw_m5 102 rfl) rfl
theorem q1177 : (Jvm.Cond.methodLinkNest "BlockingShop$Plan$1" (47 : Nat) ({ cls := "BlockingShop$Plan", name := "before", desc := "(I)I" } : Jvm.MethodName) "BlockingShop") ∈ lw_tbl := lw_at lw_m5 123 rfl
theorem q1439 : (Jvm.Cond.methodLink "BlockingShop$Plan$1" (51 : Nat) ({ cls := "java/lang/Integer", name := "valueOf", desc := "(I)Ljava/lang/Integer;" } : Jvm.MethodName)) ∈ lw_all := lw_g (lw_at lw_m6 145 rfl) rfl
theorem q1490 : (Jvm.Cond.selects "BlockingShop$Plan$1" ({ cls := "java/lang/Object", name := "getClass", desc := "()Ljava/lang/Class;" } : Jvm.MethodName) ({ cls := "java/lang/Object", name := "getClass", desc := "()Ljava/lang/Class;" } : Jvm.MethodName)) ∈ lw_all := lw_g (lw_at lw_m6 196 rfl) rfl
theorem q2383 : (Jvm.Cond.selects "BlockingShop$Plan$1" ({ cls := "java/lang/Object", name := "equals", desc := "(Ljava/lang/Object;)Z" } : Jvm.MethodName) ({ cls := "java/lang/Object", name := "equals", desc := "(Ljava/lang/Object;)Z" } : Jvm.MethodName)) ∈ lw_all := lw_g (lw_at lw_m10 129 rfl) rfl
theorem q3128 : (Jvm.Cond.selects "BlockingShop$Plan$1" ({ cls := "BlockingShop$Plan$1", name := "hasNext", desc := "()Z" } : Jvm.MethodName) ({ cls := "BlockingShop$Plan$1", name := "hasNext", desc := "()Z" } : Jvm.MethodName)) ∈ lw_all := lw_g (lw_at lw_m13 154 rfl) rfl
theorem q3173 : (Jvm.Cond.castable "BlockingShop$Plan$1" "java/lang/Object") ∈ lw_tbl := lw_at lw_m13 199 rfl
theorem in_X14 : ∀ w ∈ wsX140, w ∈ lw_all := lw_in wsX140 [1055, 1057, 1059] (by decide +kernel) (by decide +kernel)

/-! BlockingShop$Graph -/
set_option maxRecDepth 100000
def RX2 : String := "BlockingShop$Graph"
def TX2 : u_T := fun k => match k with
  | 0 => ("BlockingShop$Graph", "source", "[I", true)
  | 1 => ("BlockingShop$Graph", "target", "[I", true)
  | 2 => ("BlockingShop$Graph", "length", "[I", true)
  | 3 => ("BlockingShop$Graph", "starts", "[I", true)
  | 4 => ("BlockingShop$Graph", "incoming", "[I", true)
  | 5 => ("BlockingShop$Graph", "queue", "[I", true)
  | 6 => ("BlockingShop$Graph", "layout", "LBlockingShop$Layout;", false)
  | 7 => ("BlockingShop$Graph", "arcs", "I", false)
  | _ => ("BlockingShop$Graph", "operations", "I", false)
def tyX2 : Nat → FieldType := fun k => match k with
  | 0 => .array .int
  | 1 => .array .int
  | 2 => .array .int
  | 3 => .array .int
  | 4 => .array .int
  | 5 => .array .int
  | 6 => .object "BlockingShop$Layout"
  | 7 => .int
  | _ => .int
abbrev wsX20 : List Cond := u_ws RX2 TX2 9
theorem nmX2 : ∀ a, a < 9 → ∀ b, b < 9 → a ≠ b → (TX2 a).2.1 ≠ (TX2 b).2.1 := by decide +kernel
theorem tyX2_ok : ∀ k, k < 9 → parseFieldDescriptor (TX2 k).2.2.1 = some (tyX2 k) := by decide +kernel
abbrev cX2_init : ByteArray := prog_2_method_1_code
def yX2_init : MethodName := ⟨RX2, "<init>", "()V"⟩
def dkwX2_init_2 : List UInt8 := [188, 10, 181, 0, 27, 177]
abbrev dktX2_init_2 : List UInt8 := dkwX2_init_2 ++ []
def dkwX2_init_1 : List UInt8 := [188, 10, 181, 0, 18, 42, 16, 36, 188, 10, 181, 0, 21, 42, 16, 36, 188, 10, 181, 0, 24, 42, 16, 36]
abbrev dktX2_init_1 : List UInt8 := dkwX2_init_1 ++ dktX2_init_2
def dkwX2_init_0 : List UInt8 := [42, 183, 0, 3, 42, 16, 72, 188, 10, 181, 0, 9, 42, 16, 72, 188, 10, 181, 0, 15, 42, 16, 72]
abbrev dktX2_init_0 : List UInt8 := dkwX2_init_0 ++ dktX2_init_1
theorem dksX2_init_0 : cX2_init.data.toList.drop 0 = dktX2_init_0 := by decide +kernel
theorem dksX2_init_1 : cX2_init.data.toList.drop 23 = dktX2_init_1 := dk_seg dksX2_init_0 23 rfl rfl
theorem dksX2_init_2 : cX2_init.data.toList.drop 47 = dktX2_init_2 := dk_seg dksX2_init_1 24 rfl rfl
theorem dX2_init_0 : decode cX2_init 0 = .ok (.aload_n 0, 1) := dk_42 (dk_at dksX2_init_0 0 rfl rfl)
theorem dX2_init_1 : decode cX2_init 1 = .ok (.invokespecial 3, 3) := dk_183 0 3 (dk_at dksX2_init_0 1 rfl rfl)
theorem dX2_init_4 : decode cX2_init 4 = .ok (.aload_n 0, 1) := dk_42 (dk_at dksX2_init_0 4 rfl rfl)
theorem dX2_init_5 : decode cX2_init 5 = .ok (.bipush 72, 2) := dk_16 72 (dk_at dksX2_init_0 5 rfl rfl)
theorem dX2_init_7 : decode cX2_init 7 = .ok (.newarray .int, 2) := dk_188_10 (dk_at dksX2_init_0 7 rfl rfl)
theorem dX2_init_9 : decode cX2_init 9 = .ok (.putfield 9, 3) := dk_181 0 9 (dk_at dksX2_init_0 9 rfl rfl)
theorem dX2_init_12 : decode cX2_init 12 = .ok (.aload_n 0, 1) := dk_42 (dk_at dksX2_init_0 12 rfl rfl)
theorem dX2_init_13 : decode cX2_init 13 = .ok (.bipush 72, 2) := dk_16 72 (dk_at dksX2_init_0 13 rfl rfl)
theorem dX2_init_15 : decode cX2_init 15 = .ok (.newarray .int, 2) := dk_188_10 (dk_at dksX2_init_0 15 rfl rfl)
theorem dX2_init_17 : decode cX2_init 17 = .ok (.putfield 15, 3) := dk_181 0 15 (dk_at dksX2_init_0 17 rfl rfl)
theorem dX2_init_20 : decode cX2_init 20 = .ok (.aload_n 0, 1) := dk_42 (dk_at dksX2_init_0 20 rfl rfl)
theorem dX2_init_21 : decode cX2_init 21 = .ok (.bipush 72, 2) := dk_16 72 (dk_at dksX2_init_0 21 rfl rfl)
theorem dX2_init_23 : decode cX2_init 23 = .ok (.newarray .int, 2) := dk_188_10 (dk_at dksX2_init_1 0 rfl rfl)
theorem dX2_init_25 : decode cX2_init 25 = .ok (.putfield 18, 3) := dk_181 0 18 (dk_at dksX2_init_1 2 rfl rfl)
theorem dX2_init_28 : decode cX2_init 28 = .ok (.aload_n 0, 1) := dk_42 (dk_at dksX2_init_1 5 rfl rfl)
theorem dX2_init_29 : decode cX2_init 29 = .ok (.bipush 36, 2) := dk_16 36 (dk_at dksX2_init_1 6 rfl rfl)
theorem dX2_init_31 : decode cX2_init 31 = .ok (.newarray .int, 2) := dk_188_10 (dk_at dksX2_init_1 8 rfl rfl)
theorem dX2_init_33 : decode cX2_init 33 = .ok (.putfield 21, 3) := dk_181 0 21 (dk_at dksX2_init_1 10 rfl rfl)
theorem dX2_init_36 : decode cX2_init 36 = .ok (.aload_n 0, 1) := dk_42 (dk_at dksX2_init_1 13 rfl rfl)
theorem dX2_init_37 : decode cX2_init 37 = .ok (.bipush 36, 2) := dk_16 36 (dk_at dksX2_init_1 14 rfl rfl)
theorem dX2_init_39 : decode cX2_init 39 = .ok (.newarray .int, 2) := dk_188_10 (dk_at dksX2_init_1 16 rfl rfl)
theorem dX2_init_41 : decode cX2_init 41 = .ok (.putfield 24, 3) := dk_181 0 24 (dk_at dksX2_init_1 18 rfl rfl)
theorem dX2_init_44 : decode cX2_init 44 = .ok (.aload_n 0, 1) := dk_42 (dk_at dksX2_init_1 21 rfl rfl)
theorem dX2_init_45 : decode cX2_init 45 = .ok (.bipush 36, 2) := dk_16 36 (dk_at dksX2_init_1 22 rfl rfl)
theorem dX2_init_47 : decode cX2_init 47 = .ok (.newarray .int, 2) := dk_188_10 (dk_at dksX2_init_2 0 rfl rfl)
theorem dX2_init_49 : decode cX2_init 49 = .ok (.putfield 27, 3) := dk_181 0 27 (dk_at dksX2_init_2 2 rfl rfl)
theorem dX2_init_52 : decode cX2_init 52 = .ok (.return_, 1) := dk_177 (dk_at dksX2_init_2 5 rfl rfl)
abbrev cX2_starts : ByteArray := prog_2_method_5_code
def yX2_starts : MethodName := ⟨RX2, "starts", "(LBlockingShop$Plan;)Z"⟩
def dkwX2_starts_8 : List UInt8 := [132, 3, 1, 167, 255, 163, 28, 154, 0, 7, 4, 167, 0, 4, 3, 172]
abbrev dktX2_starts_8 : List UInt8 := dkwX2_starts_8 ++ []
def dkwX2_starts_7 : List UInt8 := [42, 180, 0, 21, 42, 180, 0, 15, 21, 4, 46, 21, 5, 79, 4, 61, 132, 4, 1, 167, 255, 186]
abbrev dktX2_starts_7 : List UInt8 := dkwX2_starts_7 ++ dktX2_starts_8
def dkwX2_starts_6 : List UInt8 := [46, 96, 54, 5, 42, 180, 0, 21, 42, 180, 0, 15, 21, 4, 46, 46, 21, 5, 161, 0, 6, 167, 0, 19]
abbrev dktX2_starts_6 : List UInt8 := dkwX2_starts_6 ++ dktX2_starts_7
def dkwX2_starts_5 : List UInt8 := [180, 0, 30, 162, 0, 67, 42, 180, 0, 21, 42, 180, 0, 9, 21, 4, 46, 46, 42, 180, 0, 18, 21, 4]
abbrev dktX2_starts_5 : List UInt8 := dkwX2_starts_5 ++ dktX2_starts_6
def dkwX2_starts_4 : List UInt8 := [3, 62, 28, 153, 0, 95, 29, 42, 180, 0, 41, 163, 0, 87, 3, 61, 3, 54, 4, 21, 4, 42]
abbrev dktX2_starts_4 : List UInt8 := dkwX2_starts_4 ++ dktX2_starts_5
def dkwX2_starts_3 : List UInt8 := [185, 0, 101, 2, 0, 192, 0, 107, 180, 0, 109, 167, 0, 4, 3, 79, 132, 2, 1, 167, 255, 193, 4, 61]
abbrev dktX2_starts_3 : List UInt8 := dkwX2_starts_3 ++ dktX2_starts_4
def dkwX2_starts_2 : List UInt8 := [42, 180, 0, 40, 28, 182, 0, 94, 153, 0, 28, 42, 180, 0, 40, 180, 0, 97, 28, 16, 6, 108]
abbrev dktX2_starts_2 : List UInt8 := dkwX2_starts_2 ++ dktX2_starts_3
def dkwX2_starts_1 : List UInt8 := [3, 61, 28, 16, 36, 162, 0, 63, 42, 180, 0, 21, 28, 42, 180, 0, 40, 28, 182, 0, 44, 153, 0, 39]
abbrev dktX2_starts_1 : List UInt8 := dkwX2_starts_1 ++ dktX2_starts_2
def dkwX2_starts_0 : List UInt8 := [42, 43, 182, 0, 82, 42, 180, 0, 40, 180, 0, 86, 154, 0, 12, 42, 182, 0, 90, 153, 0, 5, 3, 172]
abbrev dktX2_starts_0 : List UInt8 := dkwX2_starts_0 ++ dktX2_starts_1
theorem dksX2_starts_0 : cX2_starts.data.toList.drop 0 = dktX2_starts_0 := by decide +kernel
theorem dksX2_starts_1 : cX2_starts.data.toList.drop 24 = dktX2_starts_1 := dk_seg dksX2_starts_0 24 rfl rfl
theorem dksX2_starts_2 : cX2_starts.data.toList.drop 48 = dktX2_starts_2 := dk_seg dksX2_starts_1 24 rfl rfl
theorem dksX2_starts_3 : cX2_starts.data.toList.drop 70 = dktX2_starts_3 := dk_seg dksX2_starts_2 22 rfl rfl
theorem dksX2_starts_4 : cX2_starts.data.toList.drop 94 = dktX2_starts_4 := dk_seg dksX2_starts_3 24 rfl rfl
theorem dksX2_starts_5 : cX2_starts.data.toList.drop 116 = dktX2_starts_5 := dk_seg dksX2_starts_4 22 rfl rfl
theorem dksX2_starts_6 : cX2_starts.data.toList.drop 140 = dktX2_starts_6 := dk_seg dksX2_starts_5 24 rfl rfl
theorem dksX2_starts_7 : cX2_starts.data.toList.drop 164 = dktX2_starts_7 := dk_seg dksX2_starts_6 24 rfl rfl
theorem dksX2_starts_8 : cX2_starts.data.toList.drop 186 = dktX2_starts_8 := dk_seg dksX2_starts_7 22 rfl rfl
theorem dX2_starts_0 : decode cX2_starts 0 = .ok (.aload_n 0, 1) := dk_42 (dk_at dksX2_starts_0 0 rfl rfl)
theorem dX2_starts_1 : decode cX2_starts 1 = .ok (.aload_n 1, 1) := dk_43 (dk_at dksX2_starts_0 1 rfl rfl)
theorem dX2_starts_2 : decode cX2_starts 2 = .ok (.invokevirtual 82, 3) := dk_182 0 82 (dk_at dksX2_starts_0 2 rfl rfl)
theorem dX2_starts_5 : decode cX2_starts 5 = .ok (.aload_n 0, 1) := dk_42 (dk_at dksX2_starts_0 5 rfl rfl)
theorem dX2_starts_6 : decode cX2_starts 6 = .ok (.getfield 40, 3) := dk_180 0 40 (dk_at dksX2_starts_0 6 rfl rfl)
theorem dX2_starts_9 : decode cX2_starts 9 = .ok (.getfield 86, 3) := dk_180 0 86 (dk_at dksX2_starts_0 9 rfl rfl)
theorem dX2_starts_12 : decode cX2_starts 12 = .ok (.ifCond .ne 12, 3) := dk_154 0 12 (dk_at dksX2_starts_0 12 rfl rfl)
theorem dX2_starts_15 : decode cX2_starts 15 = .ok (.aload_n 0, 1) := dk_42 (dk_at dksX2_starts_0 15 rfl rfl)
theorem dX2_starts_16 : decode cX2_starts 16 = .ok (.invokevirtual 90, 3) := dk_182 0 90 (dk_at dksX2_starts_0 16 rfl rfl)
theorem dX2_starts_19 : decode cX2_starts 19 = .ok (.ifCond .eq 5, 3) := dk_153 0 5 (dk_at dksX2_starts_0 19 rfl rfl)
theorem dX2_starts_22 : decode cX2_starts 22 = .ok (.iconst 0, 1) := dk_3 (dk_at dksX2_starts_0 22 rfl rfl)
theorem dX2_starts_23 : decode cX2_starts 23 = .ok (.ireturn, 1) := dk_172 (dk_at dksX2_starts_0 23 rfl rfl)
theorem dX2_starts_24 : decode cX2_starts 24 = .ok (.iconst 0, 1) := dk_3 (dk_at dksX2_starts_1 0 rfl rfl)
theorem dX2_starts_25 : decode cX2_starts 25 = .ok (.istore_n 2, 1) := dk_61 (dk_at dksX2_starts_1 1 rfl rfl)
theorem dX2_starts_26 : decode cX2_starts 26 = .ok (.iload_n 2, 1) := dk_28 (dk_at dksX2_starts_1 2 rfl rfl)
theorem dX2_starts_27 : decode cX2_starts 27 = .ok (.bipush 36, 2) := dk_16 36 (dk_at dksX2_starts_1 3 rfl rfl)
theorem dX2_starts_29 : decode cX2_starts 29 = .ok (.if_icmp .ge 63, 3) := dk_162 0 63 (dk_at dksX2_starts_1 5 rfl rfl)
theorem dX2_starts_32 : decode cX2_starts 32 = .ok (.aload_n 0, 1) := dk_42 (dk_at dksX2_starts_1 8 rfl rfl)
theorem dX2_starts_33 : decode cX2_starts 33 = .ok (.getfield 21, 3) := dk_180 0 21 (dk_at dksX2_starts_1 9 rfl rfl)
theorem dX2_starts_36 : decode cX2_starts 36 = .ok (.iload_n 2, 1) := dk_28 (dk_at dksX2_starts_1 12 rfl rfl)
theorem dX2_starts_37 : decode cX2_starts 37 = .ok (.aload_n 0, 1) := dk_42 (dk_at dksX2_starts_1 13 rfl rfl)
theorem dX2_starts_38 : decode cX2_starts 38 = .ok (.getfield 40, 3) := dk_180 0 40 (dk_at dksX2_starts_1 14 rfl rfl)
theorem dX2_starts_41 : decode cX2_starts 41 = .ok (.iload_n 2, 1) := dk_28 (dk_at dksX2_starts_1 17 rfl rfl)
theorem dX2_starts_42 : decode cX2_starts 42 = .ok (.invokevirtual 44, 3) := dk_182 0 44 (dk_at dksX2_starts_1 18 rfl rfl)
theorem dX2_starts_45 : decode cX2_starts 45 = .ok (.ifCond .eq 39, 3) := dk_153 0 39 (dk_at dksX2_starts_1 21 rfl rfl)
theorem dX2_starts_48 : decode cX2_starts 48 = .ok (.aload_n 0, 1) := dk_42 (dk_at dksX2_starts_2 0 rfl rfl)
theorem dX2_starts_49 : decode cX2_starts 49 = .ok (.getfield 40, 3) := dk_180 0 40 (dk_at dksX2_starts_2 1 rfl rfl)
theorem dX2_starts_52 : decode cX2_starts 52 = .ok (.iload_n 2, 1) := dk_28 (dk_at dksX2_starts_2 4 rfl rfl)
theorem dX2_starts_53 : decode cX2_starts 53 = .ok (.invokevirtual 94, 3) := dk_182 0 94 (dk_at dksX2_starts_2 5 rfl rfl)
theorem dX2_starts_56 : decode cX2_starts 56 = .ok (.ifCond .eq 28, 3) := dk_153 0 28 (dk_at dksX2_starts_2 8 rfl rfl)
theorem dX2_starts_59 : decode cX2_starts 59 = .ok (.aload_n 0, 1) := dk_42 (dk_at dksX2_starts_2 11 rfl rfl)
theorem dX2_starts_60 : decode cX2_starts 60 = .ok (.getfield 40, 3) := dk_180 0 40 (dk_at dksX2_starts_2 12 rfl rfl)
theorem dX2_starts_63 : decode cX2_starts 63 = .ok (.getfield 97, 3) := dk_180 0 97 (dk_at dksX2_starts_2 15 rfl rfl)
theorem dX2_starts_66 : decode cX2_starts 66 = .ok (.iload_n 2, 1) := dk_28 (dk_at dksX2_starts_2 18 rfl rfl)
theorem dX2_starts_67 : decode cX2_starts 67 = .ok (.bipush 6, 2) := dk_16 6 (dk_at dksX2_starts_2 19 rfl rfl)
theorem dX2_starts_69 : decode cX2_starts 69 = .ok (.idiv, 1) := dk_108 (dk_at dksX2_starts_2 21 rfl rfl)
theorem dX2_starts_70 : decode cX2_starts 70 = .ok (.invokeinterface 101 2, 5) := by decide +kernel
theorem dX2_starts_75 : decode cX2_starts 75 = .ok (.checkcast 107, 3) := dk_192 0 107 (dk_at dksX2_starts_3 5 rfl rfl)
theorem dX2_starts_78 : decode cX2_starts 78 = .ok (.getfield 109, 3) := dk_180 0 109 (dk_at dksX2_starts_3 8 rfl rfl)
theorem dX2_starts_81 : decode cX2_starts 81 = .ok (.goto 4, 3) := dk_167 0 4 (dk_at dksX2_starts_3 11 rfl rfl)
theorem dX2_starts_84 : decode cX2_starts 84 = .ok (.iconst 0, 1) := dk_3 (dk_at dksX2_starts_3 14 rfl rfl)
theorem dX2_starts_85 : decode cX2_starts 85 = .ok (.iastore, 1) := dk_79 (dk_at dksX2_starts_3 15 rfl rfl)
theorem dX2_starts_86 : decode cX2_starts 86 = .ok (.iinc 2 1, 3) := dk_132 2 1 (dk_at dksX2_starts_3 16 rfl rfl)
theorem dX2_starts_89 : decode cX2_starts 89 = .ok (.goto (-63), 3) := dk_167 255 193 (dk_at dksX2_starts_3 19 rfl rfl)
theorem dX2_starts_92 : decode cX2_starts 92 = .ok (.iconst 1, 1) := dk_4 (dk_at dksX2_starts_3 22 rfl rfl)
theorem dX2_starts_93 : decode cX2_starts 93 = .ok (.istore_n 2, 1) := dk_61 (dk_at dksX2_starts_3 23 rfl rfl)
theorem dX2_starts_94 : decode cX2_starts 94 = .ok (.iconst 0, 1) := dk_3 (dk_at dksX2_starts_4 0 rfl rfl)
theorem dX2_starts_95 : decode cX2_starts 95 = .ok (.istore_n 3, 1) := dk_62 (dk_at dksX2_starts_4 1 rfl rfl)
theorem dX2_starts_96 : decode cX2_starts 96 = .ok (.iload_n 2, 1) := dk_28 (dk_at dksX2_starts_4 2 rfl rfl)
theorem dX2_starts_97 : decode cX2_starts 97 = .ok (.ifCond .eq 95, 3) := dk_153 0 95 (dk_at dksX2_starts_4 3 rfl rfl)
theorem dX2_starts_100 : decode cX2_starts 100 = .ok (.iload_n 3, 1) := dk_29 (dk_at dksX2_starts_4 6 rfl rfl)
theorem dX2_starts_101 : decode cX2_starts 101 = .ok (.aload_n 0, 1) := dk_42 (dk_at dksX2_starts_4 7 rfl rfl)
theorem dX2_starts_102 : decode cX2_starts 102 = .ok (.getfield 41, 3) := dk_180 0 41 (dk_at dksX2_starts_4 8 rfl rfl)
theorem dX2_starts_105 : decode cX2_starts 105 = .ok (.if_icmp .gt 87, 3) := dk_163 0 87 (dk_at dksX2_starts_4 11 rfl rfl)
theorem dX2_starts_108 : decode cX2_starts 108 = .ok (.iconst 0, 1) := dk_3 (dk_at dksX2_starts_4 14 rfl rfl)
theorem dX2_starts_109 : decode cX2_starts 109 = .ok (.istore_n 2, 1) := dk_61 (dk_at dksX2_starts_4 15 rfl rfl)
theorem dX2_starts_110 : decode cX2_starts 110 = .ok (.iconst 0, 1) := dk_3 (dk_at dksX2_starts_4 16 rfl rfl)
theorem dX2_starts_111 : decode cX2_starts 111 = .ok (.istore 4, 2) := dk_54 4 (dk_at dksX2_starts_4 17 rfl rfl)
theorem dX2_starts_113 : decode cX2_starts 113 = .ok (.iload 4, 2) := dk_21 4 (dk_at dksX2_starts_4 19 rfl rfl)
theorem dX2_starts_115 : decode cX2_starts 115 = .ok (.aload_n 0, 1) := dk_42 (dk_at dksX2_starts_4 21 rfl rfl)
theorem dX2_starts_116 : decode cX2_starts 116 = .ok (.getfield 30, 3) := dk_180 0 30 (dk_at dksX2_starts_5 0 rfl rfl)
theorem dX2_starts_119 : decode cX2_starts 119 = .ok (.if_icmp .ge 67, 3) := dk_162 0 67 (dk_at dksX2_starts_5 3 rfl rfl)
theorem dX2_starts_122 : decode cX2_starts 122 = .ok (.aload_n 0, 1) := dk_42 (dk_at dksX2_starts_5 6 rfl rfl)
theorem dX2_starts_123 : decode cX2_starts 123 = .ok (.getfield 21, 3) := dk_180 0 21 (dk_at dksX2_starts_5 7 rfl rfl)
theorem dX2_starts_126 : decode cX2_starts 126 = .ok (.aload_n 0, 1) := dk_42 (dk_at dksX2_starts_5 10 rfl rfl)
theorem dX2_starts_127 : decode cX2_starts 127 = .ok (.getfield 9, 3) := dk_180 0 9 (dk_at dksX2_starts_5 11 rfl rfl)
theorem dX2_starts_130 : decode cX2_starts 130 = .ok (.iload 4, 2) := dk_21 4 (dk_at dksX2_starts_5 14 rfl rfl)
theorem dX2_starts_132 : decode cX2_starts 132 = .ok (.iaload, 1) := dk_46 (dk_at dksX2_starts_5 16 rfl rfl)
theorem dX2_starts_133 : decode cX2_starts 133 = .ok (.iaload, 1) := dk_46 (dk_at dksX2_starts_5 17 rfl rfl)
theorem dX2_starts_134 : decode cX2_starts 134 = .ok (.aload_n 0, 1) := dk_42 (dk_at dksX2_starts_5 18 rfl rfl)
theorem dX2_starts_135 : decode cX2_starts 135 = .ok (.getfield 18, 3) := dk_180 0 18 (dk_at dksX2_starts_5 19 rfl rfl)
theorem dX2_starts_138 : decode cX2_starts 138 = .ok (.iload 4, 2) := dk_21 4 (dk_at dksX2_starts_5 22 rfl rfl)
theorem dX2_starts_140 : decode cX2_starts 140 = .ok (.iaload, 1) := dk_46 (dk_at dksX2_starts_6 0 rfl rfl)
theorem dX2_starts_141 : decode cX2_starts 141 = .ok (.iadd, 1) := dk_96 (dk_at dksX2_starts_6 1 rfl rfl)
theorem dX2_starts_142 : decode cX2_starts 142 = .ok (.istore 5, 2) := dk_54 5 (dk_at dksX2_starts_6 2 rfl rfl)
theorem dX2_starts_144 : decode cX2_starts 144 = .ok (.aload_n 0, 1) := dk_42 (dk_at dksX2_starts_6 4 rfl rfl)
theorem dX2_starts_145 : decode cX2_starts 145 = .ok (.getfield 21, 3) := dk_180 0 21 (dk_at dksX2_starts_6 5 rfl rfl)
theorem dX2_starts_148 : decode cX2_starts 148 = .ok (.aload_n 0, 1) := dk_42 (dk_at dksX2_starts_6 8 rfl rfl)
theorem dX2_starts_149 : decode cX2_starts 149 = .ok (.getfield 15, 3) := dk_180 0 15 (dk_at dksX2_starts_6 9 rfl rfl)
theorem dX2_starts_152 : decode cX2_starts 152 = .ok (.iload 4, 2) := dk_21 4 (dk_at dksX2_starts_6 12 rfl rfl)
theorem dX2_starts_154 : decode cX2_starts 154 = .ok (.iaload, 1) := dk_46 (dk_at dksX2_starts_6 14 rfl rfl)
theorem dX2_starts_155 : decode cX2_starts 155 = .ok (.iaload, 1) := dk_46 (dk_at dksX2_starts_6 15 rfl rfl)
theorem dX2_starts_156 : decode cX2_starts 156 = .ok (.iload 5, 2) := dk_21 5 (dk_at dksX2_starts_6 16 rfl rfl)
theorem dX2_starts_158 : decode cX2_starts 158 = .ok (.if_icmp .lt 6, 3) := dk_161 0 6 (dk_at dksX2_starts_6 18 rfl rfl)
theorem dX2_starts_161 : decode cX2_starts 161 = .ok (.goto 19, 3) := dk_167 0 19 (dk_at dksX2_starts_6 21 rfl rfl)
theorem dX2_starts_164 : decode cX2_starts 164 = .ok (.aload_n 0, 1) := dk_42 (dk_at dksX2_starts_7 0 rfl rfl)
theorem dX2_starts_165 : decode cX2_starts 165 = .ok (.getfield 21, 3) := dk_180 0 21 (dk_at dksX2_starts_7 1 rfl rfl)
theorem dX2_starts_168 : decode cX2_starts 168 = .ok (.aload_n 0, 1) := dk_42 (dk_at dksX2_starts_7 4 rfl rfl)
theorem dX2_starts_169 : decode cX2_starts 169 = .ok (.getfield 15, 3) := dk_180 0 15 (dk_at dksX2_starts_7 5 rfl rfl)
theorem dX2_starts_172 : decode cX2_starts 172 = .ok (.iload 4, 2) := dk_21 4 (dk_at dksX2_starts_7 8 rfl rfl)
theorem dX2_starts_174 : decode cX2_starts 174 = .ok (.iaload, 1) := dk_46 (dk_at dksX2_starts_7 10 rfl rfl)
theorem dX2_starts_175 : decode cX2_starts 175 = .ok (.iload 5, 2) := dk_21 5 (dk_at dksX2_starts_7 11 rfl rfl)
theorem dX2_starts_177 : decode cX2_starts 177 = .ok (.iastore, 1) := dk_79 (dk_at dksX2_starts_7 13 rfl rfl)
theorem dX2_starts_178 : decode cX2_starts 178 = .ok (.iconst 1, 1) := dk_4 (dk_at dksX2_starts_7 14 rfl rfl)
theorem dX2_starts_179 : decode cX2_starts 179 = .ok (.istore_n 2, 1) := dk_61 (dk_at dksX2_starts_7 15 rfl rfl)
theorem dX2_starts_180 : decode cX2_starts 180 = .ok (.iinc 4 1, 3) := dk_132 4 1 (dk_at dksX2_starts_7 16 rfl rfl)
theorem dX2_starts_183 : decode cX2_starts 183 = .ok (.goto (-70), 3) := dk_167 255 186 (dk_at dksX2_starts_7 19 rfl rfl)
theorem dX2_starts_186 : decode cX2_starts 186 = .ok (.iinc 3 1, 3) := dk_132 3 1 (dk_at dksX2_starts_8 0 rfl rfl)
theorem dX2_starts_189 : decode cX2_starts 189 = .ok (.goto (-93), 3) := dk_167 255 163 (dk_at dksX2_starts_8 3 rfl rfl)
theorem dX2_starts_192 : decode cX2_starts 192 = .ok (.iload_n 2, 1) := dk_28 (dk_at dksX2_starts_8 6 rfl rfl)
theorem dX2_starts_193 : decode cX2_starts 193 = .ok (.ifCond .ne 7, 3) := dk_154 0 7 (dk_at dksX2_starts_8 7 rfl rfl)
theorem dX2_starts_196 : decode cX2_starts 196 = .ok (.iconst 1, 1) := dk_4 (dk_at dksX2_starts_8 10 rfl rfl)
theorem dX2_starts_197 : decode cX2_starts 197 = .ok (.goto 4, 3) := dk_167 0 4 (dk_at dksX2_starts_8 11 rfl rfl)
theorem dX2_starts_200 : decode cX2_starts 200 = .ok (.iconst 0, 1) := dk_3 (dk_at dksX2_starts_8 14 rfl rfl)
theorem dX2_starts_201 : decode cX2_starts 201 = .ok (.ireturn, 1) := dk_172 (dk_at dksX2_starts_8 15 rfl rfl)
abbrev cX2_lay : ByteArray := prog_2_method_3_code
def yX2_lay : MethodName := ⟨RX2, "lay", "(LBlockingShop$Plan;)V"⟩
def dkwX2_lay_8 : List UInt8 := [182, 0, 56, 132, 4, 1, 167, 255, 172, 132, 2, 1, 167, 255, 140, 177]
abbrev dktX2_lay_8 : List UInt8 := dkwX2_lay_8 ++ []
def dkwX2_lay_7 : List UInt8 := [167, 0, 27, 42, 21, 5, 43, 180, 0, 75, 28, 50, 21, 4, 46, 43, 180, 0, 53, 21, 5, 46, 29, 96]
abbrev dktX2_lay_7 : List UInt8 := dkwX2_lay_7 ++ dktX2_lay_8
def dkwX2_lay_6 : List UInt8 := [182, 0, 79, 153, 0, 24, 42, 21, 5, 4, 96, 43, 180, 0, 75, 28, 50, 21, 4, 46, 29, 182, 0, 56]
abbrev dktX2_lay_6 : List UInt8 := dkwX2_lay_6 ++ dktX2_lay_7
def dkwX2_lay_5 : List UInt8 := [162, 0, 79, 43, 180, 0, 75, 28, 50, 21, 4, 4, 100, 46, 54, 5, 42, 180, 0, 40, 21, 5]
abbrev dktX2_lay_5 : List UInt8 := dkwX2_lay_5 ++ dktX2_lay_6
def dkwX2_lay_4 : List UInt8 := [180, 0, 40, 28, 182, 0, 63, 180, 0, 67, 62, 4, 54, 4, 21, 4, 43, 180, 0, 72, 28, 46]
abbrev dktX2_lay_4 : List UInt8 := dkwX2_lay_4 ++ dktX2_lay_5
def dkwX2_lay_3 : List UInt8 := [46, 182, 0, 56, 132, 2, 1, 167, 255, 198, 3, 61, 28, 42, 180, 0, 40, 180, 0, 60, 162, 0, 111, 42]
abbrev dktX2_lay_3 : List UInt8 := dkwX2_lay_3 ++ dktX2_lay_4
def dkwX2_lay_2 : List UInt8 := [181, 0, 41, 42, 180, 0, 40, 28, 182, 0, 50, 154, 0, 17, 42, 28, 28, 4, 96, 43, 180, 0, 53, 28]
abbrev dktX2_lay_2 : List UInt8 := dkwX2_lay_2 ++ dktX2_lay_3
def dkwX2_lay_1 : List UInt8 := [162, 0, 58, 42, 180, 0, 40, 28, 182, 0, 44, 154, 0, 6, 167, 0, 38, 42, 89, 180, 0, 41, 4, 96]
abbrev dktX2_lay_1 : List UInt8 := dkwX2_lay_1 ++ dktX2_lay_2
def dkwX2_lay_0 : List UInt8 := [42, 43, 180, 0, 34, 181, 0, 40, 42, 3, 181, 0, 30, 42, 3, 181, 0, 41, 3, 61, 28, 16, 36]
abbrev dktX2_lay_0 : List UInt8 := dkwX2_lay_0 ++ dktX2_lay_1
theorem dksX2_lay_0 : cX2_lay.data.toList.drop 0 = dktX2_lay_0 := by decide +kernel
theorem dksX2_lay_1 : cX2_lay.data.toList.drop 23 = dktX2_lay_1 := dk_seg dksX2_lay_0 23 rfl rfl
theorem dksX2_lay_2 : cX2_lay.data.toList.drop 47 = dktX2_lay_2 := dk_seg dksX2_lay_1 24 rfl rfl
theorem dksX2_lay_3 : cX2_lay.data.toList.drop 71 = dktX2_lay_3 := dk_seg dksX2_lay_2 24 rfl rfl
theorem dksX2_lay_4 : cX2_lay.data.toList.drop 95 = dktX2_lay_4 := dk_seg dksX2_lay_3 24 rfl rfl
theorem dksX2_lay_5 : cX2_lay.data.toList.drop 117 = dktX2_lay_5 := dk_seg dksX2_lay_4 22 rfl rfl
theorem dksX2_lay_6 : cX2_lay.data.toList.drop 139 = dktX2_lay_6 := dk_seg dksX2_lay_5 22 rfl rfl
theorem dksX2_lay_7 : cX2_lay.data.toList.drop 163 = dktX2_lay_7 := dk_seg dksX2_lay_6 24 rfl rfl
theorem dksX2_lay_8 : cX2_lay.data.toList.drop 187 = dktX2_lay_8 := dk_seg dksX2_lay_7 24 rfl rfl
theorem dX2_lay_0 : decode cX2_lay 0 = .ok (.aload_n 0, 1) := dk_42 (dk_at dksX2_lay_0 0 rfl rfl)
theorem dX2_lay_1 : decode cX2_lay 1 = .ok (.aload_n 1, 1) := dk_43 (dk_at dksX2_lay_0 1 rfl rfl)
theorem dX2_lay_2 : decode cX2_lay 2 = .ok (.getfield 34, 3) := dk_180 0 34 (dk_at dksX2_lay_0 2 rfl rfl)
theorem dX2_lay_5 : decode cX2_lay 5 = .ok (.putfield 40, 3) := dk_181 0 40 (dk_at dksX2_lay_0 5 rfl rfl)
theorem dX2_lay_8 : decode cX2_lay 8 = .ok (.aload_n 0, 1) := dk_42 (dk_at dksX2_lay_0 8 rfl rfl)
theorem dX2_lay_9 : decode cX2_lay 9 = .ok (.iconst 0, 1) := dk_3 (dk_at dksX2_lay_0 9 rfl rfl)
theorem dX2_lay_10 : decode cX2_lay 10 = .ok (.putfield 30, 3) := dk_181 0 30 (dk_at dksX2_lay_0 10 rfl rfl)
theorem dX2_lay_13 : decode cX2_lay 13 = .ok (.aload_n 0, 1) := dk_42 (dk_at dksX2_lay_0 13 rfl rfl)
theorem dX2_lay_14 : decode cX2_lay 14 = .ok (.iconst 0, 1) := dk_3 (dk_at dksX2_lay_0 14 rfl rfl)
theorem dX2_lay_15 : decode cX2_lay 15 = .ok (.putfield 41, 3) := dk_181 0 41 (dk_at dksX2_lay_0 15 rfl rfl)
theorem dX2_lay_18 : decode cX2_lay 18 = .ok (.iconst 0, 1) := dk_3 (dk_at dksX2_lay_0 18 rfl rfl)
theorem dX2_lay_19 : decode cX2_lay 19 = .ok (.istore_n 2, 1) := dk_61 (dk_at dksX2_lay_0 19 rfl rfl)
theorem dX2_lay_20 : decode cX2_lay 20 = .ok (.iload_n 2, 1) := dk_28 (dk_at dksX2_lay_0 20 rfl rfl)
theorem dX2_lay_21 : decode cX2_lay 21 = .ok (.bipush 36, 2) := dk_16 36 (dk_at dksX2_lay_0 21 rfl rfl)
theorem dX2_lay_23 : decode cX2_lay 23 = .ok (.if_icmp .ge 58, 3) := dk_162 0 58 (dk_at dksX2_lay_1 0 rfl rfl)
theorem dX2_lay_26 : decode cX2_lay 26 = .ok (.aload_n 0, 1) := dk_42 (dk_at dksX2_lay_1 3 rfl rfl)
theorem dX2_lay_27 : decode cX2_lay 27 = .ok (.getfield 40, 3) := dk_180 0 40 (dk_at dksX2_lay_1 4 rfl rfl)
theorem dX2_lay_30 : decode cX2_lay 30 = .ok (.iload_n 2, 1) := dk_28 (dk_at dksX2_lay_1 7 rfl rfl)
theorem dX2_lay_31 : decode cX2_lay 31 = .ok (.invokevirtual 44, 3) := dk_182 0 44 (dk_at dksX2_lay_1 8 rfl rfl)
theorem dX2_lay_34 : decode cX2_lay 34 = .ok (.ifCond .ne 6, 3) := dk_154 0 6 (dk_at dksX2_lay_1 11 rfl rfl)
theorem dX2_lay_37 : decode cX2_lay 37 = .ok (.goto 38, 3) := dk_167 0 38 (dk_at dksX2_lay_1 14 rfl rfl)
theorem dX2_lay_40 : decode cX2_lay 40 = .ok (.aload_n 0, 1) := dk_42 (dk_at dksX2_lay_1 17 rfl rfl)
theorem dX2_lay_41 : decode cX2_lay 41 = .ok (.dup, 1) := dk_89 (dk_at dksX2_lay_1 18 rfl rfl)
theorem dX2_lay_42 : decode cX2_lay 42 = .ok (.getfield 41, 3) := dk_180 0 41 (dk_at dksX2_lay_1 19 rfl rfl)
theorem dX2_lay_45 : decode cX2_lay 45 = .ok (.iconst 1, 1) := dk_4 (dk_at dksX2_lay_1 22 rfl rfl)
theorem dX2_lay_46 : decode cX2_lay 46 = .ok (.iadd, 1) := dk_96 (dk_at dksX2_lay_1 23 rfl rfl)
theorem dX2_lay_47 : decode cX2_lay 47 = .ok (.putfield 41, 3) := dk_181 0 41 (dk_at dksX2_lay_2 0 rfl rfl)
theorem dX2_lay_50 : decode cX2_lay 50 = .ok (.aload_n 0, 1) := dk_42 (dk_at dksX2_lay_2 3 rfl rfl)
theorem dX2_lay_51 : decode cX2_lay 51 = .ok (.getfield 40, 3) := dk_180 0 40 (dk_at dksX2_lay_2 4 rfl rfl)
theorem dX2_lay_54 : decode cX2_lay 54 = .ok (.iload_n 2, 1) := dk_28 (dk_at dksX2_lay_2 7 rfl rfl)
theorem dX2_lay_55 : decode cX2_lay 55 = .ok (.invokevirtual 50, 3) := dk_182 0 50 (dk_at dksX2_lay_2 8 rfl rfl)
theorem dX2_lay_58 : decode cX2_lay 58 = .ok (.ifCond .ne 17, 3) := dk_154 0 17 (dk_at dksX2_lay_2 11 rfl rfl)
theorem dX2_lay_61 : decode cX2_lay 61 = .ok (.aload_n 0, 1) := dk_42 (dk_at dksX2_lay_2 14 rfl rfl)
theorem dX2_lay_62 : decode cX2_lay 62 = .ok (.iload_n 2, 1) := dk_28 (dk_at dksX2_lay_2 15 rfl rfl)
theorem dX2_lay_63 : decode cX2_lay 63 = .ok (.iload_n 2, 1) := dk_28 (dk_at dksX2_lay_2 16 rfl rfl)
theorem dX2_lay_64 : decode cX2_lay 64 = .ok (.iconst 1, 1) := dk_4 (dk_at dksX2_lay_2 17 rfl rfl)
theorem dX2_lay_65 : decode cX2_lay 65 = .ok (.iadd, 1) := dk_96 (dk_at dksX2_lay_2 18 rfl rfl)
theorem dX2_lay_66 : decode cX2_lay 66 = .ok (.aload_n 1, 1) := dk_43 (dk_at dksX2_lay_2 19 rfl rfl)
theorem dX2_lay_67 : decode cX2_lay 67 = .ok (.getfield 53, 3) := dk_180 0 53 (dk_at dksX2_lay_2 20 rfl rfl)
theorem dX2_lay_70 : decode cX2_lay 70 = .ok (.iload_n 2, 1) := dk_28 (dk_at dksX2_lay_2 23 rfl rfl)
theorem dX2_lay_71 : decode cX2_lay 71 = .ok (.iaload, 1) := dk_46 (dk_at dksX2_lay_3 0 rfl rfl)
theorem dX2_lay_72 : decode cX2_lay 72 = .ok (.invokevirtual 56, 3) := dk_182 0 56 (dk_at dksX2_lay_3 1 rfl rfl)
theorem dX2_lay_75 : decode cX2_lay 75 = .ok (.iinc 2 1, 3) := dk_132 2 1 (dk_at dksX2_lay_3 4 rfl rfl)
theorem dX2_lay_78 : decode cX2_lay 78 = .ok (.goto (-58), 3) := dk_167 255 198 (dk_at dksX2_lay_3 7 rfl rfl)
theorem dX2_lay_81 : decode cX2_lay 81 = .ok (.iconst 0, 1) := dk_3 (dk_at dksX2_lay_3 10 rfl rfl)
theorem dX2_lay_82 : decode cX2_lay 82 = .ok (.istore_n 2, 1) := dk_61 (dk_at dksX2_lay_3 11 rfl rfl)
theorem dX2_lay_83 : decode cX2_lay 83 = .ok (.iload_n 2, 1) := dk_28 (dk_at dksX2_lay_3 12 rfl rfl)
theorem dX2_lay_84 : decode cX2_lay 84 = .ok (.aload_n 0, 1) := dk_42 (dk_at dksX2_lay_3 13 rfl rfl)
theorem dX2_lay_85 : decode cX2_lay 85 = .ok (.getfield 40, 3) := dk_180 0 40 (dk_at dksX2_lay_3 14 rfl rfl)
theorem dX2_lay_88 : decode cX2_lay 88 = .ok (.getfield 60, 3) := dk_180 0 60 (dk_at dksX2_lay_3 17 rfl rfl)
theorem dX2_lay_91 : decode cX2_lay 91 = .ok (.if_icmp .ge 111, 3) := dk_162 0 111 (dk_at dksX2_lay_3 20 rfl rfl)
theorem dX2_lay_94 : decode cX2_lay 94 = .ok (.aload_n 0, 1) := dk_42 (dk_at dksX2_lay_3 23 rfl rfl)
theorem dX2_lay_95 : decode cX2_lay 95 = .ok (.getfield 40, 3) := dk_180 0 40 (dk_at dksX2_lay_4 0 rfl rfl)
theorem dX2_lay_98 : decode cX2_lay 98 = .ok (.iload_n 2, 1) := dk_28 (dk_at dksX2_lay_4 3 rfl rfl)
theorem dX2_lay_99 : decode cX2_lay 99 = .ok (.invokevirtual 63, 3) := dk_182 0 63 (dk_at dksX2_lay_4 4 rfl rfl)
theorem dX2_lay_102 : decode cX2_lay 102 = .ok (.getfield 67, 3) := dk_180 0 67 (dk_at dksX2_lay_4 7 rfl rfl)
theorem dX2_lay_105 : decode cX2_lay 105 = .ok (.istore_n 3, 1) := dk_62 (dk_at dksX2_lay_4 10 rfl rfl)
theorem dX2_lay_106 : decode cX2_lay 106 = .ok (.iconst 1, 1) := dk_4 (dk_at dksX2_lay_4 11 rfl rfl)
theorem dX2_lay_107 : decode cX2_lay 107 = .ok (.istore 4, 2) := dk_54 4 (dk_at dksX2_lay_4 12 rfl rfl)
theorem dX2_lay_109 : decode cX2_lay 109 = .ok (.iload 4, 2) := dk_21 4 (dk_at dksX2_lay_4 14 rfl rfl)
theorem dX2_lay_111 : decode cX2_lay 111 = .ok (.aload_n 1, 1) := dk_43 (dk_at dksX2_lay_4 16 rfl rfl)
theorem dX2_lay_112 : decode cX2_lay 112 = .ok (.getfield 72, 3) := dk_180 0 72 (dk_at dksX2_lay_4 17 rfl rfl)
theorem dX2_lay_115 : decode cX2_lay 115 = .ok (.iload_n 2, 1) := dk_28 (dk_at dksX2_lay_4 20 rfl rfl)
theorem dX2_lay_116 : decode cX2_lay 116 = .ok (.iaload, 1) := dk_46 (dk_at dksX2_lay_4 21 rfl rfl)
theorem dX2_lay_117 : decode cX2_lay 117 = .ok (.if_icmp .ge 79, 3) := dk_162 0 79 (dk_at dksX2_lay_5 0 rfl rfl)
theorem dX2_lay_120 : decode cX2_lay 120 = .ok (.aload_n 1, 1) := dk_43 (dk_at dksX2_lay_5 3 rfl rfl)
theorem dX2_lay_121 : decode cX2_lay 121 = .ok (.getfield 75, 3) := dk_180 0 75 (dk_at dksX2_lay_5 4 rfl rfl)
theorem dX2_lay_124 : decode cX2_lay 124 = .ok (.iload_n 2, 1) := dk_28 (dk_at dksX2_lay_5 7 rfl rfl)
theorem dX2_lay_125 : decode cX2_lay 125 = .ok (.aaload, 1) := dk_50 (dk_at dksX2_lay_5 8 rfl rfl)
theorem dX2_lay_126 : decode cX2_lay 126 = .ok (.iload 4, 2) := dk_21 4 (dk_at dksX2_lay_5 9 rfl rfl)
theorem dX2_lay_128 : decode cX2_lay 128 = .ok (.iconst 1, 1) := dk_4 (dk_at dksX2_lay_5 11 rfl rfl)
theorem dX2_lay_129 : decode cX2_lay 129 = .ok (.isub, 1) := dk_100 (dk_at dksX2_lay_5 12 rfl rfl)
theorem dX2_lay_130 : decode cX2_lay 130 = .ok (.iaload, 1) := dk_46 (dk_at dksX2_lay_5 13 rfl rfl)
theorem dX2_lay_131 : decode cX2_lay 131 = .ok (.istore 5, 2) := dk_54 5 (dk_at dksX2_lay_5 14 rfl rfl)
theorem dX2_lay_133 : decode cX2_lay 133 = .ok (.aload_n 0, 1) := dk_42 (dk_at dksX2_lay_5 16 rfl rfl)
theorem dX2_lay_134 : decode cX2_lay 134 = .ok (.getfield 40, 3) := dk_180 0 40 (dk_at dksX2_lay_5 17 rfl rfl)
theorem dX2_lay_137 : decode cX2_lay 137 = .ok (.iload 5, 2) := dk_21 5 (dk_at dksX2_lay_5 20 rfl rfl)
theorem dX2_lay_139 : decode cX2_lay 139 = .ok (.invokevirtual 79, 3) := dk_182 0 79 (dk_at dksX2_lay_6 0 rfl rfl)
theorem dX2_lay_142 : decode cX2_lay 142 = .ok (.ifCond .eq 24, 3) := dk_153 0 24 (dk_at dksX2_lay_6 3 rfl rfl)
theorem dX2_lay_145 : decode cX2_lay 145 = .ok (.aload_n 0, 1) := dk_42 (dk_at dksX2_lay_6 6 rfl rfl)
theorem dX2_lay_146 : decode cX2_lay 146 = .ok (.iload 5, 2) := dk_21 5 (dk_at dksX2_lay_6 7 rfl rfl)
theorem dX2_lay_148 : decode cX2_lay 148 = .ok (.iconst 1, 1) := dk_4 (dk_at dksX2_lay_6 9 rfl rfl)
theorem dX2_lay_149 : decode cX2_lay 149 = .ok (.iadd, 1) := dk_96 (dk_at dksX2_lay_6 10 rfl rfl)
theorem dX2_lay_150 : decode cX2_lay 150 = .ok (.aload_n 1, 1) := dk_43 (dk_at dksX2_lay_6 11 rfl rfl)
theorem dX2_lay_151 : decode cX2_lay 151 = .ok (.getfield 75, 3) := dk_180 0 75 (dk_at dksX2_lay_6 12 rfl rfl)
theorem dX2_lay_154 : decode cX2_lay 154 = .ok (.iload_n 2, 1) := dk_28 (dk_at dksX2_lay_6 15 rfl rfl)
theorem dX2_lay_155 : decode cX2_lay 155 = .ok (.aaload, 1) := dk_50 (dk_at dksX2_lay_6 16 rfl rfl)
theorem dX2_lay_156 : decode cX2_lay 156 = .ok (.iload 4, 2) := dk_21 4 (dk_at dksX2_lay_6 17 rfl rfl)
theorem dX2_lay_158 : decode cX2_lay 158 = .ok (.iaload, 1) := dk_46 (dk_at dksX2_lay_6 19 rfl rfl)
theorem dX2_lay_159 : decode cX2_lay 159 = .ok (.iload_n 3, 1) := dk_29 (dk_at dksX2_lay_6 20 rfl rfl)
theorem dX2_lay_160 : decode cX2_lay 160 = .ok (.invokevirtual 56, 3) := dk_182 0 56 (dk_at dksX2_lay_6 21 rfl rfl)
theorem dX2_lay_163 : decode cX2_lay 163 = .ok (.goto 27, 3) := dk_167 0 27 (dk_at dksX2_lay_7 0 rfl rfl)
theorem dX2_lay_166 : decode cX2_lay 166 = .ok (.aload_n 0, 1) := dk_42 (dk_at dksX2_lay_7 3 rfl rfl)
theorem dX2_lay_167 : decode cX2_lay 167 = .ok (.iload 5, 2) := dk_21 5 (dk_at dksX2_lay_7 4 rfl rfl)
theorem dX2_lay_169 : decode cX2_lay 169 = .ok (.aload_n 1, 1) := dk_43 (dk_at dksX2_lay_7 6 rfl rfl)
theorem dX2_lay_170 : decode cX2_lay 170 = .ok (.getfield 75, 3) := dk_180 0 75 (dk_at dksX2_lay_7 7 rfl rfl)
theorem dX2_lay_173 : decode cX2_lay 173 = .ok (.iload_n 2, 1) := dk_28 (dk_at dksX2_lay_7 10 rfl rfl)
theorem dX2_lay_174 : decode cX2_lay 174 = .ok (.aaload, 1) := dk_50 (dk_at dksX2_lay_7 11 rfl rfl)
theorem dX2_lay_175 : decode cX2_lay 175 = .ok (.iload 4, 2) := dk_21 4 (dk_at dksX2_lay_7 12 rfl rfl)
theorem dX2_lay_177 : decode cX2_lay 177 = .ok (.iaload, 1) := dk_46 (dk_at dksX2_lay_7 14 rfl rfl)
theorem dX2_lay_178 : decode cX2_lay 178 = .ok (.aload_n 1, 1) := dk_43 (dk_at dksX2_lay_7 15 rfl rfl)
theorem dX2_lay_179 : decode cX2_lay 179 = .ok (.getfield 53, 3) := dk_180 0 53 (dk_at dksX2_lay_7 16 rfl rfl)
theorem dX2_lay_182 : decode cX2_lay 182 = .ok (.iload 5, 2) := dk_21 5 (dk_at dksX2_lay_7 19 rfl rfl)
theorem dX2_lay_184 : decode cX2_lay 184 = .ok (.iaload, 1) := dk_46 (dk_at dksX2_lay_7 21 rfl rfl)
theorem dX2_lay_185 : decode cX2_lay 185 = .ok (.iload_n 3, 1) := dk_29 (dk_at dksX2_lay_7 22 rfl rfl)
theorem dX2_lay_186 : decode cX2_lay 186 = .ok (.iadd, 1) := dk_96 (dk_at dksX2_lay_7 23 rfl rfl)
theorem dX2_lay_187 : decode cX2_lay 187 = .ok (.invokevirtual 56, 3) := dk_182 0 56 (dk_at dksX2_lay_8 0 rfl rfl)
theorem dX2_lay_190 : decode cX2_lay 190 = .ok (.iinc 4 1, 3) := dk_132 4 1 (dk_at dksX2_lay_8 3 rfl rfl)
theorem dX2_lay_193 : decode cX2_lay 193 = .ok (.goto (-84), 3) := dk_167 255 172 (dk_at dksX2_lay_8 6 rfl rfl)
theorem dX2_lay_196 : decode cX2_lay 196 = .ok (.iinc 2 1, 3) := dk_132 2 1 (dk_at dksX2_lay_8 9 rfl rfl)
theorem dX2_lay_199 : decode cX2_lay 199 = .ok (.goto (-116), 3) := dk_167 255 140 (dk_at dksX2_lay_8 12 rfl rfl)
theorem dX2_lay_202 : decode cX2_lay 202 = .ok (.return_, 1) := dk_177 (dk_at dksX2_lay_8 15 rfl rfl)
abbrev cX2_arc : ByteArray := prog_2_method_2_code
def yX2_arc : MethodName := ⟨RX2, "arc", "(III)V"⟩
def dkwX2_arc_1 : List UInt8 := [42, 180, 0, 30, 29, 79, 42, 89, 180, 0, 30, 4, 96, 181, 0, 30, 177]
abbrev dktX2_arc_1 : List UInt8 := dkwX2_arc_1 ++ []
def dkwX2_arc_0 : List UInt8 := [42, 180, 0, 9, 42, 180, 0, 30, 27, 79, 42, 180, 0, 15, 42, 180, 0, 30, 28, 79, 42, 180, 0, 18]
abbrev dktX2_arc_0 : List UInt8 := dkwX2_arc_0 ++ dktX2_arc_1
theorem dksX2_arc_0 : cX2_arc.data.toList.drop 0 = dktX2_arc_0 := by decide +kernel
theorem dksX2_arc_1 : cX2_arc.data.toList.drop 24 = dktX2_arc_1 := dk_seg dksX2_arc_0 24 rfl rfl
theorem dX2_arc_0 : decode cX2_arc 0 = .ok (.aload_n 0, 1) := dk_42 (dk_at dksX2_arc_0 0 rfl rfl)
theorem dX2_arc_1 : decode cX2_arc 1 = .ok (.getfield 9, 3) := dk_180 0 9 (dk_at dksX2_arc_0 1 rfl rfl)
theorem dX2_arc_4 : decode cX2_arc 4 = .ok (.aload_n 0, 1) := dk_42 (dk_at dksX2_arc_0 4 rfl rfl)
theorem dX2_arc_5 : decode cX2_arc 5 = .ok (.getfield 30, 3) := dk_180 0 30 (dk_at dksX2_arc_0 5 rfl rfl)
theorem dX2_arc_8 : decode cX2_arc 8 = .ok (.iload_n 1, 1) := dk_27 (dk_at dksX2_arc_0 8 rfl rfl)
theorem dX2_arc_9 : decode cX2_arc 9 = .ok (.iastore, 1) := dk_79 (dk_at dksX2_arc_0 9 rfl rfl)
theorem dX2_arc_10 : decode cX2_arc 10 = .ok (.aload_n 0, 1) := dk_42 (dk_at dksX2_arc_0 10 rfl rfl)
theorem dX2_arc_11 : decode cX2_arc 11 = .ok (.getfield 15, 3) := dk_180 0 15 (dk_at dksX2_arc_0 11 rfl rfl)
theorem dX2_arc_14 : decode cX2_arc 14 = .ok (.aload_n 0, 1) := dk_42 (dk_at dksX2_arc_0 14 rfl rfl)
theorem dX2_arc_15 : decode cX2_arc 15 = .ok (.getfield 30, 3) := dk_180 0 30 (dk_at dksX2_arc_0 15 rfl rfl)
theorem dX2_arc_18 : decode cX2_arc 18 = .ok (.iload_n 2, 1) := dk_28 (dk_at dksX2_arc_0 18 rfl rfl)
theorem dX2_arc_19 : decode cX2_arc 19 = .ok (.iastore, 1) := dk_79 (dk_at dksX2_arc_0 19 rfl rfl)
theorem dX2_arc_20 : decode cX2_arc 20 = .ok (.aload_n 0, 1) := dk_42 (dk_at dksX2_arc_0 20 rfl rfl)
theorem dX2_arc_21 : decode cX2_arc 21 = .ok (.getfield 18, 3) := dk_180 0 18 (dk_at dksX2_arc_0 21 rfl rfl)
theorem dX2_arc_24 : decode cX2_arc 24 = .ok (.aload_n 0, 1) := dk_42 (dk_at dksX2_arc_1 0 rfl rfl)
theorem dX2_arc_25 : decode cX2_arc 25 = .ok (.getfield 30, 3) := dk_180 0 30 (dk_at dksX2_arc_1 1 rfl rfl)
theorem dX2_arc_28 : decode cX2_arc 28 = .ok (.iload_n 3, 1) := dk_29 (dk_at dksX2_arc_1 4 rfl rfl)
theorem dX2_arc_29 : decode cX2_arc 29 = .ok (.iastore, 1) := dk_79 (dk_at dksX2_arc_1 5 rfl rfl)
theorem dX2_arc_30 : decode cX2_arc 30 = .ok (.aload_n 0, 1) := dk_42 (dk_at dksX2_arc_1 6 rfl rfl)
theorem dX2_arc_31 : decode cX2_arc 31 = .ok (.dup, 1) := dk_89 (dk_at dksX2_arc_1 7 rfl rfl)
theorem dX2_arc_32 : decode cX2_arc 32 = .ok (.getfield 30, 3) := dk_180 0 30 (dk_at dksX2_arc_1 8 rfl rfl)
theorem dX2_arc_35 : decode cX2_arc 35 = .ok (.iconst 1, 1) := dk_4 (dk_at dksX2_arc_1 11 rfl rfl)
theorem dX2_arc_36 : decode cX2_arc 36 = .ok (.iadd, 1) := dk_96 (dk_at dksX2_arc_1 12 rfl rfl)
theorem dX2_arc_37 : decode cX2_arc 37 = .ok (.putfield 30, 3) := dk_181 0 30 (dk_at dksX2_arc_1 13 rfl rfl)
theorem dX2_arc_40 : decode cX2_arc 40 = .ok (.return_, 1) := dk_177 (dk_at dksX2_arc_1 16 rfl rfl)
abbrev cX2_hasCycle : ByteArray := prog_2_method_4_code
def yX2_hasCycle : MethodName := ⟨RX2, "hasCycle", "()Z"⟩
def dkwX2_hasCycle_9 : List UInt8 := [3, 172]
abbrev dktX2_hasCycle_9 : List UInt8 := dkwX2_hasCycle_9 ++ []
def dkwX2_hasCycle_8 : List UInt8 := [132, 3, 1, 167, 255, 180, 132, 2, 1, 167, 255, 167, 27, 42, 180, 0, 41, 162, 0, 7, 4, 167, 0, 4]
abbrev dktX2_hasCycle_8 : List UInt8 := dkwX2_hasCycle_8 ++ dktX2_hasCycle_9
def dkwX2_hasCycle_7 : List UInt8 := [46, 158, 0, 6, 167, 0, 18, 42, 180, 0, 27, 27, 42, 180, 0, 15, 29, 46, 79, 132, 1, 1]
abbrev dktX2_hasCycle_7 : List UInt8 := dkwX2_hasCycle_7 ++ dktX2_hasCycle_8
def dkwX2_hasCycle_6 : List UInt8 := [180, 0, 24, 42, 180, 0, 15, 29, 46, 92, 46, 4, 100, 79, 42, 180, 0, 24, 42, 180, 0, 15, 29, 46]
abbrev dktX2_hasCycle_6 : List UInt8 := dkwX2_hasCycle_6 ++ dktX2_hasCycle_7
def dkwX2_hasCycle_5 : List UInt8 := [162, 0, 74, 42, 180, 0, 9, 29, 46, 42, 180, 0, 27, 28, 46, 159, 0, 6, 167, 0, 50, 42]
abbrev dktX2_hasCycle_5 : List UInt8 := dkwX2_hasCycle_5 ++ dktX2_hasCycle_6
def dkwX2_hasCycle_4 : List UInt8 := [132, 1, 1, 132, 2, 1, 167, 255, 214, 3, 61, 28, 27, 162, 0, 90, 3, 62, 29, 42, 180, 0, 30]
abbrev dktX2_hasCycle_4 : List UInt8 := dkwX2_hasCycle_4 ++ dktX2_hasCycle_5
def dkwX2_hasCycle_3 : List UInt8 := [153, 0, 25, 42, 180, 0, 24, 28, 46, 158, 0, 6, 167, 0, 13, 42, 180, 0, 27, 27, 28, 79]
abbrev dktX2_hasCycle_3 : List UInt8 := dkwX2_hasCycle_3 ++ dktX2_hasCycle_4
def dkwX2_hasCycle_2 : List UInt8 := [132, 1, 1, 167, 255, 230, 3, 60, 3, 61, 28, 16, 36, 162, 0, 42, 42, 180, 0, 40, 28, 182, 0, 44]
abbrev dktX2_hasCycle_2 : List UInt8 := dkwX2_hasCycle_2 ++ dktX2_hasCycle_3
def dkwX2_hasCycle_1 : List UInt8 := [42, 180, 0, 30, 162, 0, 24, 42, 180, 0, 24, 42, 180, 0, 15, 27, 46, 92, 46, 4, 96, 79]
abbrev dktX2_hasCycle_1 : List UInt8 := dkwX2_hasCycle_1 ++ dktX2_hasCycle_2
def dkwX2_hasCycle_0 : List UInt8 := [3, 60, 27, 16, 36, 162, 0, 16, 42, 180, 0, 24, 27, 3, 79, 132, 1, 1, 167, 255, 240, 3, 60, 27]
abbrev dktX2_hasCycle_0 : List UInt8 := dkwX2_hasCycle_0 ++ dktX2_hasCycle_1
theorem dksX2_hasCycle_0 : cX2_hasCycle.data.toList.drop 0 = dktX2_hasCycle_0 := by decide +kernel
theorem dksX2_hasCycle_1 : cX2_hasCycle.data.toList.drop 24 = dktX2_hasCycle_1 := dk_seg dksX2_hasCycle_0 24 rfl rfl
theorem dksX2_hasCycle_2 : cX2_hasCycle.data.toList.drop 46 = dktX2_hasCycle_2 := dk_seg dksX2_hasCycle_1 22 rfl rfl
theorem dksX2_hasCycle_3 : cX2_hasCycle.data.toList.drop 70 = dktX2_hasCycle_3 := dk_seg dksX2_hasCycle_2 24 rfl rfl
theorem dksX2_hasCycle_4 : cX2_hasCycle.data.toList.drop 92 = dktX2_hasCycle_4 := dk_seg dksX2_hasCycle_3 22 rfl rfl
theorem dksX2_hasCycle_5 : cX2_hasCycle.data.toList.drop 115 = dktX2_hasCycle_5 := dk_seg dksX2_hasCycle_4 23 rfl rfl
theorem dksX2_hasCycle_6 : cX2_hasCycle.data.toList.drop 137 = dktX2_hasCycle_6 := dk_seg dksX2_hasCycle_5 22 rfl rfl
theorem dksX2_hasCycle_7 : cX2_hasCycle.data.toList.drop 161 = dktX2_hasCycle_7 := dk_seg dksX2_hasCycle_6 24 rfl rfl
theorem dksX2_hasCycle_8 : cX2_hasCycle.data.toList.drop 183 = dktX2_hasCycle_8 := dk_seg dksX2_hasCycle_7 22 rfl rfl
theorem dksX2_hasCycle_9 : cX2_hasCycle.data.toList.drop 207 = dktX2_hasCycle_9 := dk_seg dksX2_hasCycle_8 24 rfl rfl
theorem dX2_hasCycle_0 : decode cX2_hasCycle 0 = .ok (.iconst 0, 1) := dk_3 (dk_at dksX2_hasCycle_0 0 rfl rfl)
theorem dX2_hasCycle_1 : decode cX2_hasCycle 1 = .ok (.istore_n 1, 1) := dk_60 (dk_at dksX2_hasCycle_0 1 rfl rfl)
theorem dX2_hasCycle_2 : decode cX2_hasCycle 2 = .ok (.iload_n 1, 1) := dk_27 (dk_at dksX2_hasCycle_0 2 rfl rfl)
theorem dX2_hasCycle_3 : decode cX2_hasCycle 3 = .ok (.bipush 36, 2) := dk_16 36 (dk_at dksX2_hasCycle_0 3 rfl rfl)
theorem dX2_hasCycle_5 : decode cX2_hasCycle 5 = .ok (.if_icmp .ge 16, 3) := dk_162 0 16 (dk_at dksX2_hasCycle_0 5 rfl rfl)
theorem dX2_hasCycle_8 : decode cX2_hasCycle 8 = .ok (.aload_n 0, 1) := dk_42 (dk_at dksX2_hasCycle_0 8 rfl rfl)
theorem dX2_hasCycle_9 : decode cX2_hasCycle 9 = .ok (.getfield 24, 3) := dk_180 0 24 (dk_at dksX2_hasCycle_0 9 rfl rfl)
theorem dX2_hasCycle_12 : decode cX2_hasCycle 12 = .ok (.iload_n 1, 1) := dk_27 (dk_at dksX2_hasCycle_0 12 rfl rfl)
theorem dX2_hasCycle_13 : decode cX2_hasCycle 13 = .ok (.iconst 0, 1) := dk_3 (dk_at dksX2_hasCycle_0 13 rfl rfl)
theorem dX2_hasCycle_14 : decode cX2_hasCycle 14 = .ok (.iastore, 1) := dk_79 (dk_at dksX2_hasCycle_0 14 rfl rfl)
theorem dX2_hasCycle_15 : decode cX2_hasCycle 15 = .ok (.iinc 1 1, 3) := dk_132 1 1 (dk_at dksX2_hasCycle_0 15 rfl rfl)
theorem dX2_hasCycle_18 : decode cX2_hasCycle 18 = .ok (.goto (-16), 3) := dk_167 255 240 (dk_at dksX2_hasCycle_0 18 rfl rfl)
theorem dX2_hasCycle_21 : decode cX2_hasCycle 21 = .ok (.iconst 0, 1) := dk_3 (dk_at dksX2_hasCycle_0 21 rfl rfl)
theorem dX2_hasCycle_22 : decode cX2_hasCycle 22 = .ok (.istore_n 1, 1) := dk_60 (dk_at dksX2_hasCycle_0 22 rfl rfl)
theorem dX2_hasCycle_23 : decode cX2_hasCycle 23 = .ok (.iload_n 1, 1) := dk_27 (dk_at dksX2_hasCycle_0 23 rfl rfl)
theorem dX2_hasCycle_24 : decode cX2_hasCycle 24 = .ok (.aload_n 0, 1) := dk_42 (dk_at dksX2_hasCycle_1 0 rfl rfl)
theorem dX2_hasCycle_25 : decode cX2_hasCycle 25 = .ok (.getfield 30, 3) := dk_180 0 30 (dk_at dksX2_hasCycle_1 1 rfl rfl)
theorem dX2_hasCycle_28 : decode cX2_hasCycle 28 = .ok (.if_icmp .ge 24, 3) := dk_162 0 24 (dk_at dksX2_hasCycle_1 4 rfl rfl)
theorem dX2_hasCycle_31 : decode cX2_hasCycle 31 = .ok (.aload_n 0, 1) := dk_42 (dk_at dksX2_hasCycle_1 7 rfl rfl)
theorem dX2_hasCycle_32 : decode cX2_hasCycle 32 = .ok (.getfield 24, 3) := dk_180 0 24 (dk_at dksX2_hasCycle_1 8 rfl rfl)
theorem dX2_hasCycle_35 : decode cX2_hasCycle 35 = .ok (.aload_n 0, 1) := dk_42 (dk_at dksX2_hasCycle_1 11 rfl rfl)
theorem dX2_hasCycle_36 : decode cX2_hasCycle 36 = .ok (.getfield 15, 3) := dk_180 0 15 (dk_at dksX2_hasCycle_1 12 rfl rfl)
theorem dX2_hasCycle_39 : decode cX2_hasCycle 39 = .ok (.iload_n 1, 1) := dk_27 (dk_at dksX2_hasCycle_1 15 rfl rfl)
theorem dX2_hasCycle_40 : decode cX2_hasCycle 40 = .ok (.iaload, 1) := dk_46 (dk_at dksX2_hasCycle_1 16 rfl rfl)
theorem dX2_hasCycle_41 : decode cX2_hasCycle 41 = .ok (.dup2, 1) := dk_92 (dk_at dksX2_hasCycle_1 17 rfl rfl)
theorem dX2_hasCycle_42 : decode cX2_hasCycle 42 = .ok (.iaload, 1) := dk_46 (dk_at dksX2_hasCycle_1 18 rfl rfl)
theorem dX2_hasCycle_43 : decode cX2_hasCycle 43 = .ok (.iconst 1, 1) := dk_4 (dk_at dksX2_hasCycle_1 19 rfl rfl)
theorem dX2_hasCycle_44 : decode cX2_hasCycle 44 = .ok (.iadd, 1) := dk_96 (dk_at dksX2_hasCycle_1 20 rfl rfl)
theorem dX2_hasCycle_45 : decode cX2_hasCycle 45 = .ok (.iastore, 1) := dk_79 (dk_at dksX2_hasCycle_1 21 rfl rfl)
theorem dX2_hasCycle_46 : decode cX2_hasCycle 46 = .ok (.iinc 1 1, 3) := dk_132 1 1 (dk_at dksX2_hasCycle_2 0 rfl rfl)
theorem dX2_hasCycle_49 : decode cX2_hasCycle 49 = .ok (.goto (-26), 3) := dk_167 255 230 (dk_at dksX2_hasCycle_2 3 rfl rfl)
theorem dX2_hasCycle_52 : decode cX2_hasCycle 52 = .ok (.iconst 0, 1) := dk_3 (dk_at dksX2_hasCycle_2 6 rfl rfl)
theorem dX2_hasCycle_53 : decode cX2_hasCycle 53 = .ok (.istore_n 1, 1) := dk_60 (dk_at dksX2_hasCycle_2 7 rfl rfl)
theorem dX2_hasCycle_54 : decode cX2_hasCycle 54 = .ok (.iconst 0, 1) := dk_3 (dk_at dksX2_hasCycle_2 8 rfl rfl)
theorem dX2_hasCycle_55 : decode cX2_hasCycle 55 = .ok (.istore_n 2, 1) := dk_61 (dk_at dksX2_hasCycle_2 9 rfl rfl)
theorem dX2_hasCycle_56 : decode cX2_hasCycle 56 = .ok (.iload_n 2, 1) := dk_28 (dk_at dksX2_hasCycle_2 10 rfl rfl)
theorem dX2_hasCycle_57 : decode cX2_hasCycle 57 = .ok (.bipush 36, 2) := dk_16 36 (dk_at dksX2_hasCycle_2 11 rfl rfl)
theorem dX2_hasCycle_59 : decode cX2_hasCycle 59 = .ok (.if_icmp .ge 42, 3) := dk_162 0 42 (dk_at dksX2_hasCycle_2 13 rfl rfl)
theorem dX2_hasCycle_62 : decode cX2_hasCycle 62 = .ok (.aload_n 0, 1) := dk_42 (dk_at dksX2_hasCycle_2 16 rfl rfl)
theorem dX2_hasCycle_63 : decode cX2_hasCycle 63 = .ok (.getfield 40, 3) := dk_180 0 40 (dk_at dksX2_hasCycle_2 17 rfl rfl)
theorem dX2_hasCycle_66 : decode cX2_hasCycle 66 = .ok (.iload_n 2, 1) := dk_28 (dk_at dksX2_hasCycle_2 20 rfl rfl)
theorem dX2_hasCycle_67 : decode cX2_hasCycle 67 = .ok (.invokevirtual 44, 3) := dk_182 0 44 (dk_at dksX2_hasCycle_2 21 rfl rfl)
theorem dX2_hasCycle_70 : decode cX2_hasCycle 70 = .ok (.ifCond .eq 25, 3) := dk_153 0 25 (dk_at dksX2_hasCycle_3 0 rfl rfl)
theorem dX2_hasCycle_73 : decode cX2_hasCycle 73 = .ok (.aload_n 0, 1) := dk_42 (dk_at dksX2_hasCycle_3 3 rfl rfl)
theorem dX2_hasCycle_74 : decode cX2_hasCycle 74 = .ok (.getfield 24, 3) := dk_180 0 24 (dk_at dksX2_hasCycle_3 4 rfl rfl)
theorem dX2_hasCycle_77 : decode cX2_hasCycle 77 = .ok (.iload_n 2, 1) := dk_28 (dk_at dksX2_hasCycle_3 7 rfl rfl)
theorem dX2_hasCycle_78 : decode cX2_hasCycle 78 = .ok (.iaload, 1) := dk_46 (dk_at dksX2_hasCycle_3 8 rfl rfl)
theorem dX2_hasCycle_79 : decode cX2_hasCycle 79 = .ok (.ifCond .le 6, 3) := dk_158 0 6 (dk_at dksX2_hasCycle_3 9 rfl rfl)
theorem dX2_hasCycle_82 : decode cX2_hasCycle 82 = .ok (.goto 13, 3) := dk_167 0 13 (dk_at dksX2_hasCycle_3 12 rfl rfl)
theorem dX2_hasCycle_85 : decode cX2_hasCycle 85 = .ok (.aload_n 0, 1) := dk_42 (dk_at dksX2_hasCycle_3 15 rfl rfl)
theorem dX2_hasCycle_86 : decode cX2_hasCycle 86 = .ok (.getfield 27, 3) := dk_180 0 27 (dk_at dksX2_hasCycle_3 16 rfl rfl)
theorem dX2_hasCycle_89 : decode cX2_hasCycle 89 = .ok (.iload_n 1, 1) := dk_27 (dk_at dksX2_hasCycle_3 19 rfl rfl)
theorem dX2_hasCycle_90 : decode cX2_hasCycle 90 = .ok (.iload_n 2, 1) := dk_28 (dk_at dksX2_hasCycle_3 20 rfl rfl)
theorem dX2_hasCycle_91 : decode cX2_hasCycle 91 = .ok (.iastore, 1) := dk_79 (dk_at dksX2_hasCycle_3 21 rfl rfl)
theorem dX2_hasCycle_92 : decode cX2_hasCycle 92 = .ok (.iinc 1 1, 3) := dk_132 1 1 (dk_at dksX2_hasCycle_4 0 rfl rfl)
theorem dX2_hasCycle_95 : decode cX2_hasCycle 95 = .ok (.iinc 2 1, 3) := dk_132 2 1 (dk_at dksX2_hasCycle_4 3 rfl rfl)
theorem dX2_hasCycle_98 : decode cX2_hasCycle 98 = .ok (.goto (-42), 3) := dk_167 255 214 (dk_at dksX2_hasCycle_4 6 rfl rfl)
theorem dX2_hasCycle_101 : decode cX2_hasCycle 101 = .ok (.iconst 0, 1) := dk_3 (dk_at dksX2_hasCycle_4 9 rfl rfl)
theorem dX2_hasCycle_102 : decode cX2_hasCycle 102 = .ok (.istore_n 2, 1) := dk_61 (dk_at dksX2_hasCycle_4 10 rfl rfl)
theorem dX2_hasCycle_103 : decode cX2_hasCycle 103 = .ok (.iload_n 2, 1) := dk_28 (dk_at dksX2_hasCycle_4 11 rfl rfl)
theorem dX2_hasCycle_104 : decode cX2_hasCycle 104 = .ok (.iload_n 1, 1) := dk_27 (dk_at dksX2_hasCycle_4 12 rfl rfl)
theorem dX2_hasCycle_105 : decode cX2_hasCycle 105 = .ok (.if_icmp .ge 90, 3) := dk_162 0 90 (dk_at dksX2_hasCycle_4 13 rfl rfl)
theorem dX2_hasCycle_108 : decode cX2_hasCycle 108 = .ok (.iconst 0, 1) := dk_3 (dk_at dksX2_hasCycle_4 16 rfl rfl)
theorem dX2_hasCycle_109 : decode cX2_hasCycle 109 = .ok (.istore_n 3, 1) := dk_62 (dk_at dksX2_hasCycle_4 17 rfl rfl)
theorem dX2_hasCycle_110 : decode cX2_hasCycle 110 = .ok (.iload_n 3, 1) := dk_29 (dk_at dksX2_hasCycle_4 18 rfl rfl)
theorem dX2_hasCycle_111 : decode cX2_hasCycle 111 = .ok (.aload_n 0, 1) := dk_42 (dk_at dksX2_hasCycle_4 19 rfl rfl)
theorem dX2_hasCycle_112 : decode cX2_hasCycle 112 = .ok (.getfield 30, 3) := dk_180 0 30 (dk_at dksX2_hasCycle_4 20 rfl rfl)
theorem dX2_hasCycle_115 : decode cX2_hasCycle 115 = .ok (.if_icmp .ge 74, 3) := dk_162 0 74 (dk_at dksX2_hasCycle_5 0 rfl rfl)
theorem dX2_hasCycle_118 : decode cX2_hasCycle 118 = .ok (.aload_n 0, 1) := dk_42 (dk_at dksX2_hasCycle_5 3 rfl rfl)
theorem dX2_hasCycle_119 : decode cX2_hasCycle 119 = .ok (.getfield 9, 3) := dk_180 0 9 (dk_at dksX2_hasCycle_5 4 rfl rfl)
theorem dX2_hasCycle_122 : decode cX2_hasCycle 122 = .ok (.iload_n 3, 1) := dk_29 (dk_at dksX2_hasCycle_5 7 rfl rfl)
theorem dX2_hasCycle_123 : decode cX2_hasCycle 123 = .ok (.iaload, 1) := dk_46 (dk_at dksX2_hasCycle_5 8 rfl rfl)
theorem dX2_hasCycle_124 : decode cX2_hasCycle 124 = .ok (.aload_n 0, 1) := dk_42 (dk_at dksX2_hasCycle_5 9 rfl rfl)
theorem dX2_hasCycle_125 : decode cX2_hasCycle 125 = .ok (.getfield 27, 3) := dk_180 0 27 (dk_at dksX2_hasCycle_5 10 rfl rfl)
theorem dX2_hasCycle_128 : decode cX2_hasCycle 128 = .ok (.iload_n 2, 1) := dk_28 (dk_at dksX2_hasCycle_5 13 rfl rfl)
theorem dX2_hasCycle_129 : decode cX2_hasCycle 129 = .ok (.iaload, 1) := dk_46 (dk_at dksX2_hasCycle_5 14 rfl rfl)
theorem dX2_hasCycle_130 : decode cX2_hasCycle 130 = .ok (.if_icmp .eq 6, 3) := dk_159 0 6 (dk_at dksX2_hasCycle_5 15 rfl rfl)
theorem dX2_hasCycle_133 : decode cX2_hasCycle 133 = .ok (.goto 50, 3) := dk_167 0 50 (dk_at dksX2_hasCycle_5 18 rfl rfl)
theorem dX2_hasCycle_136 : decode cX2_hasCycle 136 = .ok (.aload_n 0, 1) := dk_42 (dk_at dksX2_hasCycle_5 21 rfl rfl)
theorem dX2_hasCycle_137 : decode cX2_hasCycle 137 = .ok (.getfield 24, 3) := dk_180 0 24 (dk_at dksX2_hasCycle_6 0 rfl rfl)
theorem dX2_hasCycle_140 : decode cX2_hasCycle 140 = .ok (.aload_n 0, 1) := dk_42 (dk_at dksX2_hasCycle_6 3 rfl rfl)
theorem dX2_hasCycle_141 : decode cX2_hasCycle 141 = .ok (.getfield 15, 3) := dk_180 0 15 (dk_at dksX2_hasCycle_6 4 rfl rfl)
theorem dX2_hasCycle_144 : decode cX2_hasCycle 144 = .ok (.iload_n 3, 1) := dk_29 (dk_at dksX2_hasCycle_6 7 rfl rfl)
theorem dX2_hasCycle_145 : decode cX2_hasCycle 145 = .ok (.iaload, 1) := dk_46 (dk_at dksX2_hasCycle_6 8 rfl rfl)
theorem dX2_hasCycle_146 : decode cX2_hasCycle 146 = .ok (.dup2, 1) := dk_92 (dk_at dksX2_hasCycle_6 9 rfl rfl)
theorem dX2_hasCycle_147 : decode cX2_hasCycle 147 = .ok (.iaload, 1) := dk_46 (dk_at dksX2_hasCycle_6 10 rfl rfl)
theorem dX2_hasCycle_148 : decode cX2_hasCycle 148 = .ok (.iconst 1, 1) := dk_4 (dk_at dksX2_hasCycle_6 11 rfl rfl)
theorem dX2_hasCycle_149 : decode cX2_hasCycle 149 = .ok (.isub, 1) := dk_100 (dk_at dksX2_hasCycle_6 12 rfl rfl)
theorem dX2_hasCycle_150 : decode cX2_hasCycle 150 = .ok (.iastore, 1) := dk_79 (dk_at dksX2_hasCycle_6 13 rfl rfl)
theorem dX2_hasCycle_151 : decode cX2_hasCycle 151 = .ok (.aload_n 0, 1) := dk_42 (dk_at dksX2_hasCycle_6 14 rfl rfl)
theorem dX2_hasCycle_152 : decode cX2_hasCycle 152 = .ok (.getfield 24, 3) := dk_180 0 24 (dk_at dksX2_hasCycle_6 15 rfl rfl)
theorem dX2_hasCycle_155 : decode cX2_hasCycle 155 = .ok (.aload_n 0, 1) := dk_42 (dk_at dksX2_hasCycle_6 18 rfl rfl)
theorem dX2_hasCycle_156 : decode cX2_hasCycle 156 = .ok (.getfield 15, 3) := dk_180 0 15 (dk_at dksX2_hasCycle_6 19 rfl rfl)
theorem dX2_hasCycle_159 : decode cX2_hasCycle 159 = .ok (.iload_n 3, 1) := dk_29 (dk_at dksX2_hasCycle_6 22 rfl rfl)
theorem dX2_hasCycle_160 : decode cX2_hasCycle 160 = .ok (.iaload, 1) := dk_46 (dk_at dksX2_hasCycle_6 23 rfl rfl)
theorem dX2_hasCycle_161 : decode cX2_hasCycle 161 = .ok (.iaload, 1) := dk_46 (dk_at dksX2_hasCycle_7 0 rfl rfl)
theorem dX2_hasCycle_162 : decode cX2_hasCycle 162 = .ok (.ifCond .le 6, 3) := dk_158 0 6 (dk_at dksX2_hasCycle_7 1 rfl rfl)
theorem dX2_hasCycle_165 : decode cX2_hasCycle 165 = .ok (.goto 18, 3) := dk_167 0 18 (dk_at dksX2_hasCycle_7 4 rfl rfl)
theorem dX2_hasCycle_168 : decode cX2_hasCycle 168 = .ok (.aload_n 0, 1) := dk_42 (dk_at dksX2_hasCycle_7 7 rfl rfl)
theorem dX2_hasCycle_169 : decode cX2_hasCycle 169 = .ok (.getfield 27, 3) := dk_180 0 27 (dk_at dksX2_hasCycle_7 8 rfl rfl)
theorem dX2_hasCycle_172 : decode cX2_hasCycle 172 = .ok (.iload_n 1, 1) := dk_27 (dk_at dksX2_hasCycle_7 11 rfl rfl)
theorem dX2_hasCycle_173 : decode cX2_hasCycle 173 = .ok (.aload_n 0, 1) := dk_42 (dk_at dksX2_hasCycle_7 12 rfl rfl)
theorem dX2_hasCycle_174 : decode cX2_hasCycle 174 = .ok (.getfield 15, 3) := dk_180 0 15 (dk_at dksX2_hasCycle_7 13 rfl rfl)
theorem dX2_hasCycle_177 : decode cX2_hasCycle 177 = .ok (.iload_n 3, 1) := dk_29 (dk_at dksX2_hasCycle_7 16 rfl rfl)
theorem dX2_hasCycle_178 : decode cX2_hasCycle 178 = .ok (.iaload, 1) := dk_46 (dk_at dksX2_hasCycle_7 17 rfl rfl)
theorem dX2_hasCycle_179 : decode cX2_hasCycle 179 = .ok (.iastore, 1) := dk_79 (dk_at dksX2_hasCycle_7 18 rfl rfl)
theorem dX2_hasCycle_180 : decode cX2_hasCycle 180 = .ok (.iinc 1 1, 3) := dk_132 1 1 (dk_at dksX2_hasCycle_7 19 rfl rfl)
theorem dX2_hasCycle_183 : decode cX2_hasCycle 183 = .ok (.iinc 3 1, 3) := dk_132 3 1 (dk_at dksX2_hasCycle_8 0 rfl rfl)
theorem dX2_hasCycle_186 : decode cX2_hasCycle 186 = .ok (.goto (-76), 3) := dk_167 255 180 (dk_at dksX2_hasCycle_8 3 rfl rfl)
theorem dX2_hasCycle_189 : decode cX2_hasCycle 189 = .ok (.iinc 2 1, 3) := dk_132 2 1 (dk_at dksX2_hasCycle_8 6 rfl rfl)
theorem dX2_hasCycle_192 : decode cX2_hasCycle 192 = .ok (.goto (-89), 3) := dk_167 255 167 (dk_at dksX2_hasCycle_8 9 rfl rfl)
theorem dX2_hasCycle_195 : decode cX2_hasCycle 195 = .ok (.iload_n 1, 1) := dk_27 (dk_at dksX2_hasCycle_8 12 rfl rfl)
theorem dX2_hasCycle_196 : decode cX2_hasCycle 196 = .ok (.aload_n 0, 1) := dk_42 (dk_at dksX2_hasCycle_8 13 rfl rfl)
theorem dX2_hasCycle_197 : decode cX2_hasCycle 197 = .ok (.getfield 41, 3) := dk_180 0 41 (dk_at dksX2_hasCycle_8 14 rfl rfl)
theorem dX2_hasCycle_200 : decode cX2_hasCycle 200 = .ok (.if_icmp .ge 7, 3) := dk_162 0 7 (dk_at dksX2_hasCycle_8 17 rfl rfl)
theorem dX2_hasCycle_203 : decode cX2_hasCycle 203 = .ok (.iconst 1, 1) := dk_4 (dk_at dksX2_hasCycle_8 20 rfl rfl)
theorem dX2_hasCycle_204 : decode cX2_hasCycle 204 = .ok (.goto 4, 3) := dk_167 0 4 (dk_at dksX2_hasCycle_8 21 rfl rfl)
theorem dX2_hasCycle_207 : decode cX2_hasCycle 207 = .ok (.iconst 0, 1) := dk_3 (dk_at dksX2_hasCycle_9 0 rfl rfl)
theorem dX2_hasCycle_208 : decode cX2_hasCycle 208 = .ok (.ireturn, 1) := dk_172 (dk_at dksX2_hasCycle_9 1 rfl rfl)
theorem q98 : (Jvm.Cond.initialized "BlockingShop$Graph") ∈ lw_all := lw_g (lw_at lw_m1 4 rfl) rfl
theorem q188 : (Jvm.Cond.instantiable "BlockingShop$Graph" (9 : Nat)) ∈ lw_all := lw_g (lw_at lw_m1 94 rfl) rfl
theorem q190 : (Jvm.Cond.instanceMethod ({ cls := "BlockingShop$Graph", name := "<init>", desc := "()V" } : Jvm.MethodName)) ∈ lw_all := lw_g (lw_at lw_m1 96 rfl) rfl
theorem q191 : (Jvm.Cond.code ({ cls := "BlockingShop$Graph", name := "<init>", desc := "()V" } : Jvm.MethodName) prog_2_method_1_code (1 : Nat) (Option.none : Option Jvm.ClassFile.FieldType)) ∈ lw_all := lw_g (lw_at lw_m1 97 rfl) rfl
theorem q192 : (Jvm.Cond.methodLink "BlockingShop$Graph" (3 : Nat) ({ cls := "java/lang/Object", name := "<init>", desc := "()V" } : Jvm.MethodName)) ∈ lw_all := lw_g (lw_at lw_m1 98 rfl) rfl
theorem q193 : (Jvm.Cond.fieldLink "BlockingShop$Graph" (9 : Nat) "BlockingShop$Graph" "source" "[I") ∈ lw_all := lw_g (lw_at lw_m1 99 rfl) rfl
theorem q194 : (Jvm.Cond.fieldLink "BlockingShop$Graph" (15 : Nat) "BlockingShop$Graph" "target" "[I") ∈ lw_all := lw_g (lw_at lw_m1 100 rfl) rfl
theorem q195 : (Jvm.Cond.fieldLink "BlockingShop$Graph" (18 : Nat) "BlockingShop$Graph" "length" "[I") ∈ lw_all := lw_g (lw_at lw_m1 101 rfl) rfl
theorem q196 : (Jvm.Cond.fieldLink "BlockingShop$Graph" (21 : Nat) "BlockingShop$Graph" "starts" "[I") ∈ lw_all := lw_g (lw_at lw_m1 102 rfl) rfl
theorem q198 : (Jvm.Cond.fieldLink "BlockingShop$Graph" (24 : Nat) "BlockingShop$Graph" "incoming" "[I") ∈ lw_all := lw_g (lw_at lw_m1 104 rfl) rfl
theorem q199 : (Jvm.Cond.fieldLink "BlockingShop$Graph" (27 : Nat) "BlockingShop$Graph" "queue" "[I") ∈ lw_all := lw_g (lw_at lw_m1 105 rfl) rfl
theorem q200 : (Jvm.Cond.fieldLink "BlockingShop$Graph" (40 : Nat) "BlockingShop$Graph" "layout" "LBlockingShop$Layout;") ∈ lw_all := lw_g (lw_at lw_m1 106 rfl) rfl
theorem q201 : (Jvm.Cond.fieldLink "BlockingShop$Graph" (30 : Nat) "BlockingShop$Graph" "arcs" "I") ∈ lw_all := lw_g (lw_at lw_m1 107 rfl) rfl
theorem q202 : (Jvm.Cond.fieldLink "BlockingShop$Graph" (41 : Nat) "BlockingShop$Graph" "operations" "I") ∈ lw_all := lw_g (lw_at lw_m1 108 rfl) rfl
theorem q203 : (Jvm.Cond.laysFinal "BlockingShop$Graph" "BlockingShop$Graph" "source" "[I") ∈ lw_all := lw_g (lw_at lw_m1 109 rfl) rfl
theorem q204 : (Jvm.Cond.soleField "BlockingShop$Graph" "source") ∈ lw_all := lw_g (lw_at lw_m1 110 rfl) rfl
theorem q205 : (Jvm.Cond.laysFinal "BlockingShop$Graph" "BlockingShop$Graph" "target" "[I") ∈ lw_all := lw_g (lw_at lw_m1 111 rfl) rfl
theorem q206 : (Jvm.Cond.soleField "BlockingShop$Graph" "target") ∈ lw_all := lw_g (lw_at lw_m1 112 rfl) rfl
theorem q207 : (Jvm.Cond.laysFinal "BlockingShop$Graph" "BlockingShop$Graph" "length" "[I") ∈ lw_all := lw_g (lw_at lw_m1 113 rfl) rfl
theorem q208 : (Jvm.Cond.soleField "BlockingShop$Graph" "length") ∈ lw_all := lw_g (lw_at lw_m1 114 rfl) rfl
theorem q209 : (Jvm.Cond.laysFinal "BlockingShop$Graph" "BlockingShop$Graph" "starts" "[I") ∈ lw_all := lw_g (lw_at lw_m1 115 rfl) rfl
theorem q210 : (Jvm.Cond.soleField "BlockingShop$Graph" "starts") ∈ lw_all := lw_g (lw_at lw_m1 116 rfl) rfl
theorem q211 : (Jvm.Cond.laysFinal "BlockingShop$Graph" "BlockingShop$Graph" "incoming" "[I") ∈ lw_all := lw_g (lw_at lw_m1 117 rfl) rfl
theorem q212 : (Jvm.Cond.soleField "BlockingShop$Graph" "incoming") ∈ lw_all := lw_g (lw_at lw_m1 118 rfl) rfl
theorem q213 : (Jvm.Cond.laysFinal "BlockingShop$Graph" "BlockingShop$Graph" "queue" "[I") ∈ lw_all := lw_g (lw_at lw_m1 119 rfl) rfl
theorem q214 : (Jvm.Cond.soleField "BlockingShop$Graph" "queue") ∈ lw_all := lw_g (lw_at lw_m1 120 rfl) rfl
theorem q215 : (Jvm.Cond.lays "BlockingShop$Graph" "BlockingShop$Graph" "layout" "LBlockingShop$Layout;") ∈ lw_all := lw_g (lw_at lw_m1 121 rfl) rfl
theorem q216 : (Jvm.Cond.soleField "BlockingShop$Graph" "layout") ∈ lw_all := lw_g (lw_at lw_m1 122 rfl) rfl
theorem q217 : (Jvm.Cond.lays "BlockingShop$Graph" "BlockingShop$Graph" "arcs" "I") ∈ lw_all := lw_g (lw_at lw_m1 123 rfl) rfl
theorem q218 : (Jvm.Cond.soleField "BlockingShop$Graph" "arcs") ∈ lw_all := lw_g (lw_at lw_m1 124 rfl) rfl
theorem q219 : (Jvm.Cond.lays "BlockingShop$Graph" "BlockingShop$Graph" "operations" "I") ∈ lw_all := lw_g (lw_at lw_m1 125 rfl) rfl
theorem q220 : (Jvm.Cond.soleField "BlockingShop$Graph" "operations") ∈ lw_all := lw_g (lw_at lw_m1 126 rfl) rfl
theorem q221 : (Jvm.Cond.superclass "BlockingShop$Graph" "java/lang/Object") ∈ lw_all := lw_g (lw_at lw_m1 127 rfl) rfl
theorem q316 : (Jvm.Cond.fieldLinkNest "BlockingShop$Graph" (67 : Nat) "BlockingShop$Machine" "setup" "I" "BlockingShop") ∈ lw_tbl := lw_at lw_m1 222 rfl
theorem q323 : (Jvm.Cond.fieldLinkNest "BlockingShop$Graph" (60 : Nat) "BlockingShop$Layout" "machines" "I" "BlockingShop") ∈ lw_tbl := lw_at lw_m1 229 rfl
theorem q327 : (Jvm.Cond.fieldLinkNest "BlockingShop$Graph" (86 : Nat) "BlockingShop$Layout" "areSwapsAllowed" "Z" "BlockingShop") ∈ lw_tbl := lw_at lw_m1 233 rfl
theorem q331 : (Jvm.Cond.fieldLinkNest "BlockingShop$Graph" (97 : Nat) "BlockingShop$Layout" "jobs" "Ljava/util/List;" "BlockingShop") ∈ lw_tbl := lw_at lw_m1 237 rfl
theorem q365 : (Jvm.Cond.fieldLinkNest "BlockingShop$Graph" (34 : Nat) "BlockingShop$Plan" "layout" "LBlockingShop$Layout;" "BlockingShop") ∈ lw_tbl := lw_at lw_m2 31 rfl
theorem q368 : (Jvm.Cond.fieldLinkNest "BlockingShop$Graph" (53 : Nat) "BlockingShop$Plan" "durations" "[I" "BlockingShop") ∈ lw_tbl := lw_at lw_m2 34 rfl
theorem q372 : (Jvm.Cond.fieldLinkNest "BlockingShop$Graph" (72 : Nat) "BlockingShop$Plan" "counts" "[I" "BlockingShop") ∈ lw_tbl := lw_at lw_m2 38 rfl
theorem q377 : (Jvm.Cond.fieldLinkNest "BlockingShop$Graph" (75 : Nat) "BlockingShop$Plan" "orders" "[[I" "BlockingShop") ∈ lw_tbl := lw_at lw_m2 43 rfl
theorem q1482 : (Jvm.Cond.selects "BlockingShop$Graph" ({ cls := "java/lang/Object", name := "getClass", desc := "()Ljava/lang/Class;" } : Jvm.MethodName) ({ cls := "java/lang/Object", name := "getClass", desc := "()Ljava/lang/Class;" } : Jvm.MethodName)) ∈ lw_all := lw_g (lw_at lw_m6 188 rfl) rfl
theorem q1864 : (Jvm.Cond.instanceMethod ({ cls := "BlockingShop$Graph", name := "starts", desc := "(LBlockingShop$Plan;)Z" } : Jvm.MethodName)) ∈ lw_all := lw_g (lw_at lw_m8 90 rfl) rfl
theorem q1865 : (Jvm.Cond.selects "BlockingShop$Graph" ({ cls := "BlockingShop$Graph", name := "starts", desc := "(LBlockingShop$Plan;)Z" } : Jvm.MethodName) ({ cls := "BlockingShop$Graph", name := "starts", desc := "(LBlockingShop$Plan;)Z" } : Jvm.MethodName)) ∈ lw_all := lw_g (lw_at lw_m8 91 rfl) rfl
theorem q1866 : (Jvm.Cond.code ({ cls := "BlockingShop$Graph", name := "starts", desc := "(LBlockingShop$Plan;)Z" } : Jvm.MethodName) prog_2_method_5_code (6 : Nat) (Option.some Jvm.ClassFile.FieldType.boolean)) ∈ lw_all := lw_g (lw_at lw_m8 92 rfl) rfl
theorem q1867 : (Jvm.Cond.methodLink "BlockingShop$Graph" (82 : Nat) ({ cls := "BlockingShop$Graph", name := "lay", desc := "(LBlockingShop$Plan;)V" } : Jvm.MethodName)) ∈ lw_all := lw_g (lw_at lw_m8 93 rfl) rfl
theorem q1868 : (Jvm.Cond.privateMethod ({ cls := "BlockingShop$Graph", name := "lay", desc := "(LBlockingShop$Plan;)V" } : Jvm.MethodName)) ∈ lw_tbl := lw_at lw_m8 94 rfl
theorem q1869 : (Jvm.Cond.instanceMethod ({ cls := "BlockingShop$Graph", name := "lay", desc := "(LBlockingShop$Plan;)V" } : Jvm.MethodName)) ∈ lw_all := lw_g (lw_at lw_m8 95 rfl) rfl
theorem q1870 : (Jvm.Cond.code ({ cls := "BlockingShop$Graph", name := "lay", desc := "(LBlockingShop$Plan;)V" } : Jvm.MethodName) prog_2_method_3_code (6 : Nat) (Option.none : Option Jvm.ClassFile.FieldType)) ∈ lw_all := lw_g (lw_at lw_m8 96 rfl) rfl
theorem q1871 : (Jvm.Cond.methodLink "BlockingShop$Graph" (44 : Nat) ({ cls := "BlockingShop$Layout", name := "exists", desc := "(I)Z" } : Jvm.MethodName)) ∈ lw_all := lw_g (lw_at lw_m8 97 rfl) rfl
theorem q1877 : (Jvm.Cond.methodLink "BlockingShop$Graph" (50 : Nat) ({ cls := "BlockingShop$Layout", name := "isLast", desc := "(I)Z" } : Jvm.MethodName)) ∈ lw_all := lw_g (lw_at lw_m8 103 rfl) rfl
theorem q1878 : (Jvm.Cond.methodLink "BlockingShop$Graph" (56 : Nat) ({ cls := "BlockingShop$Graph", name := "arc", desc := "(III)V" } : Jvm.MethodName)) ∈ lw_all := lw_g (lw_at lw_m8 104 rfl) rfl
theorem q1879 : (Jvm.Cond.privateMethod ({ cls := "BlockingShop$Graph", name := "arc", desc := "(III)V" } : Jvm.MethodName)) ∈ lw_tbl := lw_at lw_m8 105 rfl
theorem q1880 : (Jvm.Cond.instanceMethod ({ cls := "BlockingShop$Graph", name := "arc", desc := "(III)V" } : Jvm.MethodName)) ∈ lw_all := lw_g (lw_at lw_m8 106 rfl) rfl
theorem q1881 : (Jvm.Cond.code ({ cls := "BlockingShop$Graph", name := "arc", desc := "(III)V" } : Jvm.MethodName) prog_2_method_2_code (4 : Nat) (Option.none : Option Jvm.ClassFile.FieldType)) ∈ lw_all := lw_g (lw_at lw_m8 107 rfl) rfl
theorem q1882 : (Jvm.Cond.methodLink "BlockingShop$Graph" (63 : Nat) ({ cls := "BlockingShop$Layout", name := "machine", desc := "(I)LBlockingShop$Machine;" } : Jvm.MethodName)) ∈ lw_all := lw_g (lw_at lw_m8 108 rfl) rfl
theorem q1883 : (Jvm.Cond.methodLink "BlockingShop$Graph" (79 : Nat) ({ cls := "BlockingShop$Layout", name := "isBlocked", desc := "(I)Z" } : Jvm.MethodName)) ∈ lw_all := lw_g (lw_at lw_m8 109 rfl) rfl
theorem q1884 : (Jvm.Cond.methodLink "BlockingShop$Graph" (90 : Nat) ({ cls := "BlockingShop$Graph", name := "hasCycle", desc := "()Z" } : Jvm.MethodName)) ∈ lw_all := lw_g (lw_at lw_m8 110 rfl) rfl
theorem q1885 : (Jvm.Cond.privateMethod ({ cls := "BlockingShop$Graph", name := "hasCycle", desc := "()Z" } : Jvm.MethodName)) ∈ lw_tbl := lw_at lw_m8 111 rfl
theorem q1886 : (Jvm.Cond.instanceMethod ({ cls := "BlockingShop$Graph", name := "hasCycle", desc := "()Z" } : Jvm.MethodName)) ∈ lw_all := lw_g (lw_at lw_m8 112 rfl) rfl
theorem q1887 : (Jvm.Cond.code ({ cls := "BlockingShop$Graph", name := "hasCycle", desc := "()Z" } : Jvm.MethodName) prog_2_method_4_code (4 : Nat) (Option.some Jvm.ClassFile.FieldType.boolean)) ∈ lw_all := lw_g (lw_at lw_m8 113 rfl) rfl
theorem q1888 : (Jvm.Cond.methodLink "BlockingShop$Graph" (94 : Nat) ({ cls := "BlockingShop$Layout", name := "isFirst", desc := "(I)Z" } : Jvm.MethodName)) ∈ lw_all := lw_g (lw_at lw_m8 114 rfl) rfl
theorem q1889 : (Jvm.Cond.interfaceEntry "BlockingShop$Graph" (101 : Nat)) ∈ lw_tbl := lw_at lw_m8 115 rfl
theorem q1890 : (Jvm.Cond.methodLink "BlockingShop$Graph" (101 : Nat) ({ cls := "java/util/List", name := "get", desc := "(I)Ljava/lang/Object;" } : Jvm.MethodName)) ∈ lw_all := lw_g (lw_at lw_m8 116 rfl) rfl
theorem q1891 : (Jvm.Cond.classLink "BlockingShop$Graph" (107 : Nat) "BlockingShop$Job") ∈ lw_all := lw_g (lw_at lw_m8 117 rfl) rfl
theorem q2168 : (Jvm.Cond.fieldLinkNest "BlockingShop$Graph" (109 : Nat) "BlockingShop$Job" "release" "I" "BlockingShop") ∈ lw_tbl := lw_at lw_m9 154 rfl
theorem q2375 : (Jvm.Cond.selects "BlockingShop$Graph" ({ cls := "java/lang/Object", name := "equals", desc := "(Ljava/lang/Object;)Z" } : Jvm.MethodName) ({ cls := "java/lang/Object", name := "equals", desc := "(Ljava/lang/Object;)Z" } : Jvm.MethodName)) ∈ lw_all := lw_g (lw_at lw_m10 121 rfl) rfl
theorem q3145 : (Jvm.Cond.castable "BlockingShop$Graph" "java/lang/Object") ∈ lw_tbl := lw_at lw_m13 171 rfl
theorem in_X2 : ∀ w ∈ wsX20, w ∈ lw_all := lw_in wsX20 [203, 205, 207, 209, 211, 213, 215, 217, 219] (by decide +kernel) (by decide +kernel)

/-! BlockingShop$Plan -/
set_option maxRecDepth 100000
def RX3 : String := "BlockingShop$Plan"
def TX3 : u_T := fun k => match k with
  | 0 => ("BlockingShop$Plan", "layout", "LBlockingShop$Layout;", true)
  | 1 => ("BlockingShop$Plan", "durations", "[I", true)
  | 2 => ("BlockingShop$Plan", "counts", "[I", true)
  | 3 => ("BlockingShop$Plan", "starts", "[I", true)
  | _ => ("BlockingShop$Plan", "orders", "[[I", true)
def tyX3 : Nat → FieldType := fun k => match k with
  | 0 => .object "BlockingShop$Layout"
  | 1 => .array .int
  | 2 => .array .int
  | 3 => .array .int
  | _ => .array (.array .int)
abbrev wsX30 : List Cond := u_ws RX3 TX3 5
theorem nmX3 : ∀ a, a < 5 → ∀ b, b < 5 → a ≠ b → (TX3 a).2.1 ≠ (TX3 b).2.1 := by decide +kernel
theorem tyX3_ok : ∀ k, k < 5 → parseFieldDescriptor (TX3 k).2.2.1 = some (tyX3 k) := by decide +kernel
abbrev cX3_init : ByteArray := prog_10_method_1_code
def yX3_init : MethodName := ⟨RX3, "<init>", "(LBlockingShop$Layout;)V"⟩
def dkwX3_init_1 : List UInt8 := [188, 10, 181, 0, 18, 42, 16, 6, 16, 6, 197, 0, 21, 2, 181, 0, 23, 42, 43, 181, 0, 26, 177]
abbrev dktX3_init_1 : List UInt8 := dkwX3_init_1 ++ []
def dkwX3_init_0 : List UInt8 := [42, 183, 0, 3, 42, 16, 36, 188, 10, 181, 0, 9, 42, 16, 6, 188, 10, 181, 0, 15, 42, 16, 36]
abbrev dktX3_init_0 : List UInt8 := dkwX3_init_0 ++ dktX3_init_1
theorem dksX3_init_0 : cX3_init.data.toList.drop 0 = dktX3_init_0 := by decide +kernel
theorem dksX3_init_1 : cX3_init.data.toList.drop 23 = dktX3_init_1 := dk_seg dksX3_init_0 23 rfl rfl
theorem dX3_init_0 : decode cX3_init 0 = .ok (.aload_n 0, 1) := dk_42 (dk_at dksX3_init_0 0 rfl rfl)
theorem dX3_init_1 : decode cX3_init 1 = .ok (.invokespecial 3, 3) := dk_183 0 3 (dk_at dksX3_init_0 1 rfl rfl)
theorem dX3_init_4 : decode cX3_init 4 = .ok (.aload_n 0, 1) := dk_42 (dk_at dksX3_init_0 4 rfl rfl)
theorem dX3_init_5 : decode cX3_init 5 = .ok (.bipush 36, 2) := dk_16 36 (dk_at dksX3_init_0 5 rfl rfl)
theorem dX3_init_7 : decode cX3_init 7 = .ok (.newarray .int, 2) := dk_188_10 (dk_at dksX3_init_0 7 rfl rfl)
theorem dX3_init_9 : decode cX3_init 9 = .ok (.putfield 9, 3) := dk_181 0 9 (dk_at dksX3_init_0 9 rfl rfl)
theorem dX3_init_12 : decode cX3_init 12 = .ok (.aload_n 0, 1) := dk_42 (dk_at dksX3_init_0 12 rfl rfl)
theorem dX3_init_13 : decode cX3_init 13 = .ok (.bipush 6, 2) := dk_16 6 (dk_at dksX3_init_0 13 rfl rfl)
theorem dX3_init_15 : decode cX3_init 15 = .ok (.newarray .int, 2) := dk_188_10 (dk_at dksX3_init_0 15 rfl rfl)
theorem dX3_init_17 : decode cX3_init 17 = .ok (.putfield 15, 3) := dk_181 0 15 (dk_at dksX3_init_0 17 rfl rfl)
theorem dX3_init_20 : decode cX3_init 20 = .ok (.aload_n 0, 1) := dk_42 (dk_at dksX3_init_0 20 rfl rfl)
theorem dX3_init_21 : decode cX3_init 21 = .ok (.bipush 36, 2) := dk_16 36 (dk_at dksX3_init_0 21 rfl rfl)
theorem dX3_init_23 : decode cX3_init 23 = .ok (.newarray .int, 2) := dk_188_10 (dk_at dksX3_init_1 0 rfl rfl)
theorem dX3_init_25 : decode cX3_init 25 = .ok (.putfield 18, 3) := dk_181 0 18 (dk_at dksX3_init_1 2 rfl rfl)
theorem dX3_init_28 : decode cX3_init 28 = .ok (.aload_n 0, 1) := dk_42 (dk_at dksX3_init_1 5 rfl rfl)
theorem dX3_init_29 : decode cX3_init 29 = .ok (.bipush 6, 2) := dk_16 6 (dk_at dksX3_init_1 6 rfl rfl)
theorem dX3_init_31 : decode cX3_init 31 = .ok (.bipush 6, 2) := dk_16 6 (dk_at dksX3_init_1 8 rfl rfl)
theorem dX3_init_33 : decode cX3_init 33 = .ok (.multianewarray 21 2, 4) := by decide +kernel
theorem dX3_init_37 : decode cX3_init 37 = .ok (.putfield 23, 3) := dk_181 0 23 (dk_at dksX3_init_1 14 rfl rfl)
theorem dX3_init_40 : decode cX3_init 40 = .ok (.aload_n 0, 1) := dk_42 (dk_at dksX3_init_1 17 rfl rfl)
theorem dX3_init_41 : decode cX3_init 41 = .ok (.aload_n 1, 1) := dk_43 (dk_at dksX3_init_1 18 rfl rfl)
theorem dX3_init_42 : decode cX3_init 42 = .ok (.putfield 26, 3) := dk_181 0 26 (dk_at dksX3_init_1 19 rfl rfl)
theorem dX3_init_45 : decode cX3_init 45 = .ok (.return_, 1) := dk_177 (dk_at dksX3_init_1 22 rfl rfl)
abbrev cX3_makespan : ByteArray := prog_10_method_12_code
def yX3_makespan : MethodName := ⟨RX3, "makespan", "()I"⟩
def dkwX3_makespan_1 : List UInt8 := [182, 0, 92, 184, 0, 95, 60, 132, 2, 1, 167, 255, 227, 27, 172]
abbrev dktX3_makespan_1 : List UInt8 := dkwX3_makespan_1 ++ []
def dkwX3_makespan_0 : List UInt8 := [3, 60, 3, 61, 28, 42, 180, 0, 26, 180, 0, 72, 185, 0, 88, 1, 0, 162, 0, 19, 27, 42, 28]
abbrev dktX3_makespan_0 : List UInt8 := dkwX3_makespan_0 ++ dktX3_makespan_1
theorem dksX3_makespan_0 : cX3_makespan.data.toList.drop 0 = dktX3_makespan_0 := by decide +kernel
theorem dksX3_makespan_1 : cX3_makespan.data.toList.drop 23 = dktX3_makespan_1 := dk_seg dksX3_makespan_0 23 rfl rfl
theorem dX3_makespan_0 : decode cX3_makespan 0 = .ok (.iconst 0, 1) := dk_3 (dk_at dksX3_makespan_0 0 rfl rfl)
theorem dX3_makespan_1 : decode cX3_makespan 1 = .ok (.istore_n 1, 1) := dk_60 (dk_at dksX3_makespan_0 1 rfl rfl)
theorem dX3_makespan_2 : decode cX3_makespan 2 = .ok (.iconst 0, 1) := dk_3 (dk_at dksX3_makespan_0 2 rfl rfl)
theorem dX3_makespan_3 : decode cX3_makespan 3 = .ok (.istore_n 2, 1) := dk_61 (dk_at dksX3_makespan_0 3 rfl rfl)
theorem dX3_makespan_4 : decode cX3_makespan 4 = .ok (.iload_n 2, 1) := dk_28 (dk_at dksX3_makespan_0 4 rfl rfl)
theorem dX3_makespan_5 : decode cX3_makespan 5 = .ok (.aload_n 0, 1) := dk_42 (dk_at dksX3_makespan_0 5 rfl rfl)
theorem dX3_makespan_6 : decode cX3_makespan 6 = .ok (.getfield 26, 3) := dk_180 0 26 (dk_at dksX3_makespan_0 6 rfl rfl)
theorem dX3_makespan_9 : decode cX3_makespan 9 = .ok (.getfield 72, 3) := dk_180 0 72 (dk_at dksX3_makespan_0 9 rfl rfl)
theorem dX3_makespan_12 : decode cX3_makespan 12 = .ok (.invokeinterface 88 1, 5) := by decide +kernel
theorem dX3_makespan_17 : decode cX3_makespan 17 = .ok (.if_icmp .ge 19, 3) := dk_162 0 19 (dk_at dksX3_makespan_0 17 rfl rfl)
theorem dX3_makespan_20 : decode cX3_makespan 20 = .ok (.iload_n 1, 1) := dk_27 (dk_at dksX3_makespan_0 20 rfl rfl)
theorem dX3_makespan_21 : decode cX3_makespan 21 = .ok (.aload_n 0, 1) := dk_42 (dk_at dksX3_makespan_0 21 rfl rfl)
theorem dX3_makespan_22 : decode cX3_makespan 22 = .ok (.iload_n 2, 1) := dk_28 (dk_at dksX3_makespan_0 22 rfl rfl)
theorem dX3_makespan_23 : decode cX3_makespan 23 = .ok (.invokevirtual 92, 3) := dk_182 0 92 (dk_at dksX3_makespan_1 0 rfl rfl)
theorem dX3_makespan_26 : decode cX3_makespan 26 = .ok (.invokestatic 95, 3) := dk_184 0 95 (dk_at dksX3_makespan_1 3 rfl rfl)
theorem dX3_makespan_29 : decode cX3_makespan 29 = .ok (.istore_n 1, 1) := dk_60 (dk_at dksX3_makespan_1 6 rfl rfl)
theorem dX3_makespan_30 : decode cX3_makespan 30 = .ok (.iinc 2 1, 3) := dk_132 2 1 (dk_at dksX3_makespan_1 7 rfl rfl)
theorem dX3_makespan_33 : decode cX3_makespan 33 = .ok (.goto (-29), 3) := dk_167 255 227 (dk_at dksX3_makespan_1 10 rfl rfl)
theorem dX3_makespan_36 : decode cX3_makespan 36 = .ok (.iload_n 1, 1) := dk_27 (dk_at dksX3_makespan_1 13 rfl rfl)
theorem dX3_makespan_37 : decode cX3_makespan 37 = .ok (.ireturn, 1) := dk_172 (dk_at dksX3_makespan_1 14 rfl rfl)
abbrev cX3_completion : ByteArray := prog_10_method_11_code
def yX3_completion : MethodName := ⟨RX3, "completion", "(I)I"⟩
def dkwX3_completion_1 : List UInt8 := [96, 4, 100, 182, 0, 69, 172]
abbrev dktX3_completion_1 : List UInt8 := dkwX3_completion_1 ++ []
def dkwX3_completion_0 : List UInt8 := [42, 16, 6, 27, 104, 42, 180, 0, 26, 180, 0, 72, 27, 185, 0, 76, 2, 0, 192, 0, 82, 180, 0, 84]
abbrev dktX3_completion_0 : List UInt8 := dkwX3_completion_0 ++ dktX3_completion_1
theorem dksX3_completion_0 : cX3_completion.data.toList.drop 0 = dktX3_completion_0 := by decide +kernel
theorem dksX3_completion_1 : cX3_completion.data.toList.drop 24 = dktX3_completion_1 := dk_seg dksX3_completion_0 24 rfl rfl
theorem dX3_completion_0 : decode cX3_completion 0 = .ok (.aload_n 0, 1) := dk_42 (dk_at dksX3_completion_0 0 rfl rfl)
theorem dX3_completion_1 : decode cX3_completion 1 = .ok (.bipush 6, 2) := dk_16 6 (dk_at dksX3_completion_0 1 rfl rfl)
theorem dX3_completion_3 : decode cX3_completion 3 = .ok (.iload_n 1, 1) := dk_27 (dk_at dksX3_completion_0 3 rfl rfl)
theorem dX3_completion_4 : decode cX3_completion 4 = .ok (.imul, 1) := dk_104 (dk_at dksX3_completion_0 4 rfl rfl)
theorem dX3_completion_5 : decode cX3_completion 5 = .ok (.aload_n 0, 1) := dk_42 (dk_at dksX3_completion_0 5 rfl rfl)
theorem dX3_completion_6 : decode cX3_completion 6 = .ok (.getfield 26, 3) := dk_180 0 26 (dk_at dksX3_completion_0 6 rfl rfl)
theorem dX3_completion_9 : decode cX3_completion 9 = .ok (.getfield 72, 3) := dk_180 0 72 (dk_at dksX3_completion_0 9 rfl rfl)
theorem dX3_completion_12 : decode cX3_completion 12 = .ok (.iload_n 1, 1) := dk_27 (dk_at dksX3_completion_0 12 rfl rfl)
theorem dX3_completion_13 : decode cX3_completion 13 = .ok (.invokeinterface 76 2, 5) := by decide +kernel
theorem dX3_completion_18 : decode cX3_completion 18 = .ok (.checkcast 82, 3) := dk_192 0 82 (dk_at dksX3_completion_0 18 rfl rfl)
theorem dX3_completion_21 : decode cX3_completion 21 = .ok (.getfield 84, 3) := dk_180 0 84 (dk_at dksX3_completion_0 21 rfl rfl)
theorem dX3_completion_24 : decode cX3_completion 24 = .ok (.iadd, 1) := dk_96 (dk_at dksX3_completion_1 0 rfl rfl)
theorem dX3_completion_25 : decode cX3_completion 25 = .ok (.iconst 1, 1) := dk_4 (dk_at dksX3_completion_1 1 rfl rfl)
theorem dX3_completion_26 : decode cX3_completion 26 = .ok (.isub, 1) := dk_100 (dk_at dksX3_completion_1 2 rfl rfl)
theorem dX3_completion_27 : decode cX3_completion 27 = .ok (.invokevirtual 69, 3) := dk_182 0 69 (dk_at dksX3_completion_1 3 rfl rfl)
theorem dX3_completion_30 : decode cX3_completion 30 = .ok (.ireturn, 1) := dk_172 (dk_at dksX3_completion_1 6 rfl rfl)
abbrev cX3_end : ByteArray := prog_10_method_9_code
def yX3_end : MethodName := ⟨RX3, "end", "(I)I"⟩
def dkwX3_end_0 : List UInt8 := [42, 180, 0, 18, 27, 46, 42, 180, 0, 9, 27, 46, 96, 172]
abbrev dktX3_end_0 : List UInt8 := dkwX3_end_0 ++ []
theorem dksX3_end_0 : cX3_end.data.toList.drop 0 = dktX3_end_0 := by decide +kernel
theorem dX3_end_0 : decode cX3_end 0 = .ok (.aload_n 0, 1) := dk_42 (dk_at dksX3_end_0 0 rfl rfl)
theorem dX3_end_1 : decode cX3_end 1 = .ok (.getfield 18, 3) := dk_180 0 18 (dk_at dksX3_end_0 1 rfl rfl)
theorem dX3_end_4 : decode cX3_end 4 = .ok (.iload_n 1, 1) := dk_27 (dk_at dksX3_end_0 4 rfl rfl)
theorem dX3_end_5 : decode cX3_end 5 = .ok (.iaload, 1) := dk_46 (dk_at dksX3_end_0 5 rfl rfl)
theorem dX3_end_6 : decode cX3_end 6 = .ok (.aload_n 0, 1) := dk_42 (dk_at dksX3_end_0 6 rfl rfl)
theorem dX3_end_7 : decode cX3_end 7 = .ok (.getfield 9, 3) := dk_180 0 9 (dk_at dksX3_end_0 7 rfl rfl)
theorem dX3_end_10 : decode cX3_end 10 = .ok (.iload_n 1, 1) := dk_27 (dk_at dksX3_end_0 10 rfl rfl)
theorem dX3_end_11 : decode cX3_end 11 = .ok (.iaload, 1) := dk_46 (dk_at dksX3_end_0 11 rfl rfl)
theorem dX3_end_12 : decode cX3_end 12 = .ok (.iadd, 1) := dk_96 (dk_at dksX3_end_0 12 rfl rfl)
theorem dX3_end_13 : decode cX3_end 13 = .ok (.ireturn, 1) := dk_172 (dk_at dksX3_end_0 13 rfl rfl)
abbrev cX3_cost : ByteArray := prog_10_method_14_code
def yX3_cost : MethodName := ⟨RX3, "cost", "()I"⟩
def dkwX3_cost_1 : List UInt8 := [182, 0, 111, 96, 60, 132, 2, 1, 167, 255, 229, 27, 172]
abbrev dktX3_cost_1 : List UInt8 := dkwX3_cost_1 ++ []
def dkwX3_cost_0 : List UInt8 := [3, 60, 3, 61, 28, 42, 180, 0, 26, 180, 0, 72, 185, 0, 88, 1, 0, 162, 0, 17, 27, 42, 28]
abbrev dktX3_cost_0 : List UInt8 := dkwX3_cost_0 ++ dktX3_cost_1
theorem dksX3_cost_0 : cX3_cost.data.toList.drop 0 = dktX3_cost_0 := by decide +kernel
theorem dksX3_cost_1 : cX3_cost.data.toList.drop 23 = dktX3_cost_1 := dk_seg dksX3_cost_0 23 rfl rfl
theorem dX3_cost_0 : decode cX3_cost 0 = .ok (.iconst 0, 1) := dk_3 (dk_at dksX3_cost_0 0 rfl rfl)
theorem dX3_cost_1 : decode cX3_cost 1 = .ok (.istore_n 1, 1) := dk_60 (dk_at dksX3_cost_0 1 rfl rfl)
theorem dX3_cost_2 : decode cX3_cost 2 = .ok (.iconst 0, 1) := dk_3 (dk_at dksX3_cost_0 2 rfl rfl)
theorem dX3_cost_3 : decode cX3_cost 3 = .ok (.istore_n 2, 1) := dk_61 (dk_at dksX3_cost_0 3 rfl rfl)
theorem dX3_cost_4 : decode cX3_cost 4 = .ok (.iload_n 2, 1) := dk_28 (dk_at dksX3_cost_0 4 rfl rfl)
theorem dX3_cost_5 : decode cX3_cost 5 = .ok (.aload_n 0, 1) := dk_42 (dk_at dksX3_cost_0 5 rfl rfl)
theorem dX3_cost_6 : decode cX3_cost 6 = .ok (.getfield 26, 3) := dk_180 0 26 (dk_at dksX3_cost_0 6 rfl rfl)
theorem dX3_cost_9 : decode cX3_cost 9 = .ok (.getfield 72, 3) := dk_180 0 72 (dk_at dksX3_cost_0 9 rfl rfl)
theorem dX3_cost_12 : decode cX3_cost 12 = .ok (.invokeinterface 88 1, 5) := by decide +kernel
theorem dX3_cost_17 : decode cX3_cost 17 = .ok (.if_icmp .ge 17, 3) := dk_162 0 17 (dk_at dksX3_cost_0 17 rfl rfl)
theorem dX3_cost_20 : decode cX3_cost 20 = .ok (.iload_n 1, 1) := dk_27 (dk_at dksX3_cost_0 20 rfl rfl)
theorem dX3_cost_21 : decode cX3_cost 21 = .ok (.aload_n 0, 1) := dk_42 (dk_at dksX3_cost_0 21 rfl rfl)
theorem dX3_cost_22 : decode cX3_cost 22 = .ok (.iload_n 2, 1) := dk_28 (dk_at dksX3_cost_0 22 rfl rfl)
theorem dX3_cost_23 : decode cX3_cost 23 = .ok (.invokevirtual 111, 3) := dk_182 0 111 (dk_at dksX3_cost_1 0 rfl rfl)
theorem dX3_cost_26 : decode cX3_cost 26 = .ok (.iadd, 1) := dk_96 (dk_at dksX3_cost_1 3 rfl rfl)
theorem dX3_cost_27 : decode cX3_cost 27 = .ok (.istore_n 1, 1) := dk_60 (dk_at dksX3_cost_1 4 rfl rfl)
theorem dX3_cost_28 : decode cX3_cost 28 = .ok (.iinc 2 1, 3) := dk_132 2 1 (dk_at dksX3_cost_1 5 rfl rfl)
theorem dX3_cost_31 : decode cX3_cost 31 = .ok (.goto (-27), 3) := dk_167 255 229 (dk_at dksX3_cost_1 8 rfl rfl)
theorem dX3_cost_34 : decode cX3_cost 34 = .ok (.iload_n 1, 1) := dk_27 (dk_at dksX3_cost_1 11 rfl rfl)
theorem dX3_cost_35 : decode cX3_cost 35 = .ok (.ireturn, 1) := dk_172 (dk_at dksX3_cost_1 12 rfl rfl)
abbrev cX3_jobCost : ByteArray := prog_10_method_13_code
def yX3_jobCost : MethodName := ⟨RX3, "jobCost", "(I)I"⟩
def dkwX3_jobCost_1 : List UInt8 := [27, 182, 0, 92, 133, 182, 0, 105, 136, 172]
abbrev dktX3_jobCost_1 : List UInt8 := dkwX3_jobCost_1 ++ []
def dkwX3_jobCost_0 : List UInt8 := [42, 180, 0, 26, 180, 0, 101, 42, 180, 0, 26, 180, 0, 72, 27, 185, 0, 76, 2, 0, 192, 0, 82, 42]
abbrev dktX3_jobCost_0 : List UInt8 := dkwX3_jobCost_0 ++ dktX3_jobCost_1
theorem dksX3_jobCost_0 : cX3_jobCost.data.toList.drop 0 = dktX3_jobCost_0 := by decide +kernel
theorem dksX3_jobCost_1 : cX3_jobCost.data.toList.drop 24 = dktX3_jobCost_1 := dk_seg dksX3_jobCost_0 24 rfl rfl
theorem dX3_jobCost_0 : decode cX3_jobCost 0 = .ok (.aload_n 0, 1) := dk_42 (dk_at dksX3_jobCost_0 0 rfl rfl)
theorem dX3_jobCost_1 : decode cX3_jobCost 1 = .ok (.getfield 26, 3) := dk_180 0 26 (dk_at dksX3_jobCost_0 1 rfl rfl)
theorem dX3_jobCost_4 : decode cX3_jobCost 4 = .ok (.getfield 101, 3) := dk_180 0 101 (dk_at dksX3_jobCost_0 4 rfl rfl)
theorem dX3_jobCost_7 : decode cX3_jobCost 7 = .ok (.aload_n 0, 1) := dk_42 (dk_at dksX3_jobCost_0 7 rfl rfl)
theorem dX3_jobCost_8 : decode cX3_jobCost 8 = .ok (.getfield 26, 3) := dk_180 0 26 (dk_at dksX3_jobCost_0 8 rfl rfl)
theorem dX3_jobCost_11 : decode cX3_jobCost 11 = .ok (.getfield 72, 3) := dk_180 0 72 (dk_at dksX3_jobCost_0 11 rfl rfl)
theorem dX3_jobCost_14 : decode cX3_jobCost 14 = .ok (.iload_n 1, 1) := dk_27 (dk_at dksX3_jobCost_0 14 rfl rfl)
theorem dX3_jobCost_15 : decode cX3_jobCost 15 = .ok (.invokeinterface 76 2, 5) := by decide +kernel
theorem dX3_jobCost_20 : decode cX3_jobCost 20 = .ok (.checkcast 82, 3) := dk_192 0 82 (dk_at dksX3_jobCost_0 20 rfl rfl)
theorem dX3_jobCost_23 : decode cX3_jobCost 23 = .ok (.aload_n 0, 1) := dk_42 (dk_at dksX3_jobCost_0 23 rfl rfl)
theorem dX3_jobCost_24 : decode cX3_jobCost 24 = .ok (.iload_n 1, 1) := dk_27 (dk_at dksX3_jobCost_1 0 rfl rfl)
theorem dX3_jobCost_25 : decode cX3_jobCost 25 = .ok (.invokevirtual 92, 3) := dk_182 0 92 (dk_at dksX3_jobCost_1 1 rfl rfl)
theorem dX3_jobCost_28 : decode cX3_jobCost 28 = .ok (.i2l, 1) := dk_133 (dk_at dksX3_jobCost_1 4 rfl rfl)
theorem dX3_jobCost_29 : decode cX3_jobCost 29 = .ok (.invokevirtual 105, 3) := dk_182 0 105 (dk_at dksX3_jobCost_1 5 rfl rfl)
theorem dX3_jobCost_32 : decode cX3_jobCost 32 = .ok (.l2i, 1) := dk_136 (dk_at dksX3_jobCost_1 8 rfl rfl)
theorem dX3_jobCost_33 : decode cX3_jobCost 33 = .ok (.ireturn, 1) := dk_172 (dk_at dksX3_jobCost_1 9 rfl rfl)
abbrev cX3_critical : ByteArray := prog_10_method_19_code
def yX3_critical : MethodName := ⟨RX3, "critical", "()Ljava/util/LinkedList;"⟩
def dkwX3_critical_1 : List UInt8 := [185, 0, 142, 1, 0, 192, 0, 146, 182, 0, 148, 167, 255, 234, 43, 176]
abbrev dktX3_critical_1 : List UInt8 := dkwX3_critical_1 ++ []
def dkwX3_critical_0 : List UInt8 := [187, 0, 129, 89, 183, 0, 131, 76, 42, 182, 0, 132, 77, 44, 185, 0, 136, 1, 0, 153, 0, 19, 43, 44]
abbrev dktX3_critical_0 : List UInt8 := dkwX3_critical_0 ++ dktX3_critical_1
theorem dksX3_critical_0 : cX3_critical.data.toList.drop 0 = dktX3_critical_0 := by decide +kernel
theorem dksX3_critical_1 : cX3_critical.data.toList.drop 24 = dktX3_critical_1 := dk_seg dksX3_critical_0 24 rfl rfl
theorem dX3_critical_0 : decode cX3_critical 0 = .ok (.new 129, 3) := dk_187 0 129 (dk_at dksX3_critical_0 0 rfl rfl)
theorem dX3_critical_3 : decode cX3_critical 3 = .ok (.dup, 1) := dk_89 (dk_at dksX3_critical_0 3 rfl rfl)
theorem dX3_critical_4 : decode cX3_critical 4 = .ok (.invokespecial 131, 3) := dk_183 0 131 (dk_at dksX3_critical_0 4 rfl rfl)
theorem dX3_critical_7 : decode cX3_critical 7 = .ok (.astore_n 1, 1) := dk_76 (dk_at dksX3_critical_0 7 rfl rfl)
theorem dX3_critical_8 : decode cX3_critical 8 = .ok (.aload_n 0, 1) := dk_42 (dk_at dksX3_critical_0 8 rfl rfl)
theorem dX3_critical_9 : decode cX3_critical 9 = .ok (.invokevirtual 132, 3) := dk_182 0 132 (dk_at dksX3_critical_0 9 rfl rfl)
theorem dX3_critical_12 : decode cX3_critical 12 = .ok (.astore_n 2, 1) := dk_77 (dk_at dksX3_critical_0 12 rfl rfl)
theorem dX3_critical_13 : decode cX3_critical 13 = .ok (.aload_n 2, 1) := dk_44 (dk_at dksX3_critical_0 13 rfl rfl)
theorem dX3_critical_14 : decode cX3_critical 14 = .ok (.invokeinterface 136 1, 5) := by decide +kernel
theorem dX3_critical_19 : decode cX3_critical 19 = .ok (.ifCond .eq 19, 3) := dk_153 0 19 (dk_at dksX3_critical_0 19 rfl rfl)
theorem dX3_critical_22 : decode cX3_critical 22 = .ok (.aload_n 1, 1) := dk_43 (dk_at dksX3_critical_0 22 rfl rfl)
theorem dX3_critical_23 : decode cX3_critical 23 = .ok (.aload_n 2, 1) := dk_44 (dk_at dksX3_critical_0 23 rfl rfl)
theorem dX3_critical_24 : decode cX3_critical 24 = .ok (.invokeinterface 142 1, 5) := by decide +kernel
theorem dX3_critical_29 : decode cX3_critical 29 = .ok (.checkcast 146, 3) := dk_192 0 146 (dk_at dksX3_critical_1 5 rfl rfl)
theorem dX3_critical_32 : decode cX3_critical 32 = .ok (.invokevirtual 148, 3) := dk_182 0 148 (dk_at dksX3_critical_1 8 rfl rfl)
theorem dX3_critical_35 : decode cX3_critical 35 = .ok (.goto (-22), 3) := dk_167 255 234 (dk_at dksX3_critical_1 11 rfl rfl)
theorem dX3_critical_38 : decode cX3_critical 38 = .ok (.aload_n 1, 1) := dk_43 (dk_at dksX3_critical_1 14 rfl rfl)
theorem dX3_critical_39 : decode cX3_critical 39 = .ok (.areturn, 1) := dk_176 (dk_at dksX3_critical_1 15 rfl rfl)
abbrev cX3_path : ByteArray := prog_10_method_18_code
def yX3_path : MethodName := ⟨RX3, "path", "()Ljava/util/Iterator;"⟩
def dkwX3_path_0 : List UInt8 := [187, 0, 125, 89, 42, 183, 0, 127, 176]
abbrev dktX3_path_0 : List UInt8 := dkwX3_path_0 ++ []
theorem dksX3_path_0 : cX3_path.data.toList.drop 0 = dktX3_path_0 := by decide +kernel
theorem dX3_path_0 : decode cX3_path 0 = .ok (.new 125, 3) := dk_187 0 125 (dk_at dksX3_path_0 0 rfl rfl)
theorem dX3_path_3 : decode cX3_path 3 = .ok (.dup, 1) := dk_89 (dk_at dksX3_path_0 3 rfl rfl)
theorem dX3_path_4 : decode cX3_path 4 = .ok (.aload_n 0, 1) := dk_42 (dk_at dksX3_path_0 4 rfl rfl)
theorem dX3_path_5 : decode cX3_path 5 = .ok (.invokespecial 127, 3) := dk_183 0 127 (dk_at dksX3_path_0 5 rfl rfl)
theorem dX3_path_8 : decode cX3_path 8 = .ok (.areturn, 1) := dk_176 (dk_at dksX3_path_0 8 rfl rfl)
abbrev cX3_last : ByteArray := prog_10_method_16_code
def yX3_last : MethodName := ⟨RX3, "last", "()I"⟩
def dkwX3_last_3 : List UInt8 := [185, 0, 76, 2, 0, 192, 0, 82, 180, 0, 84, 96, 4, 100, 172]
abbrev dktX3_last_3 : List UInt8 := dkwX3_last_3 ++ []
def dkwX3_last_2 : List UInt8 := [27, 2, 160, 0, 7, 2, 167, 0, 29, 16, 6, 27, 104, 42, 180, 0, 26, 180, 0, 72, 27]
abbrev dktX3_last_2 : List UInt8 := dkwX3_last_2 ++ dktX3_last_3
def dkwX3_last_1 : List UInt8 := [159, 0, 16, 42, 28, 182, 0, 92, 42, 27, 182, 0, 92, 164, 0, 5, 28, 60, 132, 2, 1, 167, 255, 217]
abbrev dktX3_last_1 : List UInt8 := dkwX3_last_1 ++ dktX3_last_2
def dkwX3_last_0 : List UInt8 := [2, 60, 3, 61, 28, 42, 180, 0, 26, 180, 0, 72, 185, 0, 88, 1, 0, 162, 0, 29, 27, 2]
abbrev dktX3_last_0 : List UInt8 := dkwX3_last_0 ++ dktX3_last_1
theorem dksX3_last_0 : cX3_last.data.toList.drop 0 = dktX3_last_0 := by decide +kernel
theorem dksX3_last_1 : cX3_last.data.toList.drop 22 = dktX3_last_1 := dk_seg dksX3_last_0 22 rfl rfl
theorem dksX3_last_2 : cX3_last.data.toList.drop 46 = dktX3_last_2 := dk_seg dksX3_last_1 24 rfl rfl
theorem dksX3_last_3 : cX3_last.data.toList.drop 67 = dktX3_last_3 := dk_seg dksX3_last_2 21 rfl rfl
theorem dX3_last_0 : decode cX3_last 0 = .ok (.iconst (-1), 1) := dk_2 (dk_at dksX3_last_0 0 rfl rfl)
theorem dX3_last_1 : decode cX3_last 1 = .ok (.istore_n 1, 1) := dk_60 (dk_at dksX3_last_0 1 rfl rfl)
theorem dX3_last_2 : decode cX3_last 2 = .ok (.iconst 0, 1) := dk_3 (dk_at dksX3_last_0 2 rfl rfl)
theorem dX3_last_3 : decode cX3_last 3 = .ok (.istore_n 2, 1) := dk_61 (dk_at dksX3_last_0 3 rfl rfl)
theorem dX3_last_4 : decode cX3_last 4 = .ok (.iload_n 2, 1) := dk_28 (dk_at dksX3_last_0 4 rfl rfl)
theorem dX3_last_5 : decode cX3_last 5 = .ok (.aload_n 0, 1) := dk_42 (dk_at dksX3_last_0 5 rfl rfl)
theorem dX3_last_6 : decode cX3_last 6 = .ok (.getfield 26, 3) := dk_180 0 26 (dk_at dksX3_last_0 6 rfl rfl)
theorem dX3_last_9 : decode cX3_last 9 = .ok (.getfield 72, 3) := dk_180 0 72 (dk_at dksX3_last_0 9 rfl rfl)
theorem dX3_last_12 : decode cX3_last 12 = .ok (.invokeinterface 88 1, 5) := by decide +kernel
theorem dX3_last_17 : decode cX3_last 17 = .ok (.if_icmp .ge 29, 3) := dk_162 0 29 (dk_at dksX3_last_0 17 rfl rfl)
theorem dX3_last_20 : decode cX3_last 20 = .ok (.iload_n 1, 1) := dk_27 (dk_at dksX3_last_0 20 rfl rfl)
theorem dX3_last_21 : decode cX3_last 21 = .ok (.iconst (-1), 1) := dk_2 (dk_at dksX3_last_0 21 rfl rfl)
theorem dX3_last_22 : decode cX3_last 22 = .ok (.if_icmp .eq 16, 3) := dk_159 0 16 (dk_at dksX3_last_1 0 rfl rfl)
theorem dX3_last_25 : decode cX3_last 25 = .ok (.aload_n 0, 1) := dk_42 (dk_at dksX3_last_1 3 rfl rfl)
theorem dX3_last_26 : decode cX3_last 26 = .ok (.iload_n 2, 1) := dk_28 (dk_at dksX3_last_1 4 rfl rfl)
theorem dX3_last_27 : decode cX3_last 27 = .ok (.invokevirtual 92, 3) := dk_182 0 92 (dk_at dksX3_last_1 5 rfl rfl)
theorem dX3_last_30 : decode cX3_last 30 = .ok (.aload_n 0, 1) := dk_42 (dk_at dksX3_last_1 8 rfl rfl)
theorem dX3_last_31 : decode cX3_last 31 = .ok (.iload_n 1, 1) := dk_27 (dk_at dksX3_last_1 9 rfl rfl)
theorem dX3_last_32 : decode cX3_last 32 = .ok (.invokevirtual 92, 3) := dk_182 0 92 (dk_at dksX3_last_1 10 rfl rfl)
theorem dX3_last_35 : decode cX3_last 35 = .ok (.if_icmp .le 5, 3) := dk_164 0 5 (dk_at dksX3_last_1 13 rfl rfl)
theorem dX3_last_38 : decode cX3_last 38 = .ok (.iload_n 2, 1) := dk_28 (dk_at dksX3_last_1 16 rfl rfl)
theorem dX3_last_39 : decode cX3_last 39 = .ok (.istore_n 1, 1) := dk_60 (dk_at dksX3_last_1 17 rfl rfl)
theorem dX3_last_40 : decode cX3_last 40 = .ok (.iinc 2 1, 3) := dk_132 2 1 (dk_at dksX3_last_1 18 rfl rfl)
theorem dX3_last_43 : decode cX3_last 43 = .ok (.goto (-39), 3) := dk_167 255 217 (dk_at dksX3_last_1 21 rfl rfl)
theorem dX3_last_46 : decode cX3_last 46 = .ok (.iload_n 1, 1) := dk_27 (dk_at dksX3_last_2 0 rfl rfl)
theorem dX3_last_47 : decode cX3_last 47 = .ok (.iconst (-1), 1) := dk_2 (dk_at dksX3_last_2 1 rfl rfl)
theorem dX3_last_48 : decode cX3_last 48 = .ok (.if_icmp .ne 7, 3) := dk_160 0 7 (dk_at dksX3_last_2 2 rfl rfl)
theorem dX3_last_51 : decode cX3_last 51 = .ok (.iconst (-1), 1) := dk_2 (dk_at dksX3_last_2 5 rfl rfl)
theorem dX3_last_52 : decode cX3_last 52 = .ok (.goto 29, 3) := dk_167 0 29 (dk_at dksX3_last_2 6 rfl rfl)
theorem dX3_last_55 : decode cX3_last 55 = .ok (.bipush 6, 2) := dk_16 6 (dk_at dksX3_last_2 9 rfl rfl)
theorem dX3_last_57 : decode cX3_last 57 = .ok (.iload_n 1, 1) := dk_27 (dk_at dksX3_last_2 11 rfl rfl)
theorem dX3_last_58 : decode cX3_last 58 = .ok (.imul, 1) := dk_104 (dk_at dksX3_last_2 12 rfl rfl)
theorem dX3_last_59 : decode cX3_last 59 = .ok (.aload_n 0, 1) := dk_42 (dk_at dksX3_last_2 13 rfl rfl)
theorem dX3_last_60 : decode cX3_last 60 = .ok (.getfield 26, 3) := dk_180 0 26 (dk_at dksX3_last_2 14 rfl rfl)
theorem dX3_last_63 : decode cX3_last 63 = .ok (.getfield 72, 3) := dk_180 0 72 (dk_at dksX3_last_2 17 rfl rfl)
theorem dX3_last_66 : decode cX3_last 66 = .ok (.iload_n 1, 1) := dk_27 (dk_at dksX3_last_2 20 rfl rfl)
theorem dX3_last_67 : decode cX3_last 67 = .ok (.invokeinterface 76 2, 5) := by decide +kernel
theorem dX3_last_72 : decode cX3_last 72 = .ok (.checkcast 82, 3) := dk_192 0 82 (dk_at dksX3_last_3 5 rfl rfl)
theorem dX3_last_75 : decode cX3_last 75 = .ok (.getfield 84, 3) := dk_180 0 84 (dk_at dksX3_last_3 8 rfl rfl)
theorem dX3_last_78 : decode cX3_last 78 = .ok (.iadd, 1) := dk_96 (dk_at dksX3_last_3 11 rfl rfl)
theorem dX3_last_79 : decode cX3_last 79 = .ok (.iconst 1, 1) := dk_4 (dk_at dksX3_last_3 12 rfl rfl)
theorem dX3_last_80 : decode cX3_last 80 = .ok (.isub, 1) := dk_100 (dk_at dksX3_last_3 13 rfl rfl)
theorem dX3_last_81 : decode cX3_last 81 = .ok (.ireturn, 1) := dk_172 (dk_at dksX3_last_3 14 rfl rfl)
abbrev cX3_before : ByteArray := prog_10_method_17_code
def yX3_before : MethodName := ⟨RX3, "before", "(I)I"⟩
def dkwX3_before_4 : List UInt8 := [180, 0, 26, 29, 182, 0, 66, 153, 0, 9, 29, 4, 96, 167, 0, 4, 29, 172]
abbrev dktX3_before_4 : List UInt8 := dkwX3_before_4 ++ []
def dkwX3_before_3 : List UInt8 := [180, 0, 23, 42, 180, 0, 26, 180, 0, 49, 27, 46, 50, 42, 27, 182, 0, 52, 4, 100, 46, 62, 42]
abbrev dktX3_before_3 : List UInt8 := dkwX3_before_3 ++ dktX3_before_4
def dkwX3_before_2 : List UInt8 := [154, 0, 23, 42, 27, 4, 100, 182, 0, 69, 42, 180, 0, 18, 27, 46, 160, 0, 7, 27, 4, 100, 172, 42]
abbrev dktX3_before_2 : List UInt8 := dkwX3_before_2 ++ dktX3_before_3
def dkwX3_before_1 : List UInt8 := [180, 0, 72, 27, 16, 6, 108, 185, 0, 76, 2, 0, 192, 0, 82, 180, 0, 122, 160, 0, 5, 2, 172, 28]
abbrev dktX3_before_1 : List UInt8 := dkwX3_before_1 ++ dktX3_before_2
def dkwX3_before_0 : List UInt8 := [42, 180, 0, 26, 27, 182, 0, 119, 61, 28, 153, 0, 36, 42, 180, 0, 18, 27, 46, 42, 180, 0, 26]
abbrev dktX3_before_0 : List UInt8 := dkwX3_before_0 ++ dktX3_before_1
theorem dksX3_before_0 : cX3_before.data.toList.drop 0 = dktX3_before_0 := by decide +kernel
theorem dksX3_before_1 : cX3_before.data.toList.drop 23 = dktX3_before_1 := dk_seg dksX3_before_0 23 rfl rfl
theorem dksX3_before_2 : cX3_before.data.toList.drop 47 = dktX3_before_2 := dk_seg dksX3_before_1 24 rfl rfl
theorem dksX3_before_3 : cX3_before.data.toList.drop 71 = dktX3_before_3 := dk_seg dksX3_before_2 24 rfl rfl
theorem dksX3_before_4 : cX3_before.data.toList.drop 94 = dktX3_before_4 := dk_seg dksX3_before_3 23 rfl rfl
theorem dX3_before_0 : decode cX3_before 0 = .ok (.aload_n 0, 1) := dk_42 (dk_at dksX3_before_0 0 rfl rfl)
theorem dX3_before_1 : decode cX3_before 1 = .ok (.getfield 26, 3) := dk_180 0 26 (dk_at dksX3_before_0 1 rfl rfl)
theorem dX3_before_4 : decode cX3_before 4 = .ok (.iload_n 1, 1) := dk_27 (dk_at dksX3_before_0 4 rfl rfl)
theorem dX3_before_5 : decode cX3_before 5 = .ok (.invokevirtual 119, 3) := dk_182 0 119 (dk_at dksX3_before_0 5 rfl rfl)
theorem dX3_before_8 : decode cX3_before 8 = .ok (.istore_n 2, 1) := dk_61 (dk_at dksX3_before_0 8 rfl rfl)
theorem dX3_before_9 : decode cX3_before 9 = .ok (.iload_n 2, 1) := dk_28 (dk_at dksX3_before_0 9 rfl rfl)
theorem dX3_before_10 : decode cX3_before 10 = .ok (.ifCond .eq 36, 3) := dk_153 0 36 (dk_at dksX3_before_0 10 rfl rfl)
theorem dX3_before_13 : decode cX3_before 13 = .ok (.aload_n 0, 1) := dk_42 (dk_at dksX3_before_0 13 rfl rfl)
theorem dX3_before_14 : decode cX3_before 14 = .ok (.getfield 18, 3) := dk_180 0 18 (dk_at dksX3_before_0 14 rfl rfl)
theorem dX3_before_17 : decode cX3_before 17 = .ok (.iload_n 1, 1) := dk_27 (dk_at dksX3_before_0 17 rfl rfl)
theorem dX3_before_18 : decode cX3_before 18 = .ok (.iaload, 1) := dk_46 (dk_at dksX3_before_0 18 rfl rfl)
theorem dX3_before_19 : decode cX3_before 19 = .ok (.aload_n 0, 1) := dk_42 (dk_at dksX3_before_0 19 rfl rfl)
theorem dX3_before_20 : decode cX3_before 20 = .ok (.getfield 26, 3) := dk_180 0 26 (dk_at dksX3_before_0 20 rfl rfl)
theorem dX3_before_23 : decode cX3_before 23 = .ok (.getfield 72, 3) := dk_180 0 72 (dk_at dksX3_before_1 0 rfl rfl)
theorem dX3_before_26 : decode cX3_before 26 = .ok (.iload_n 1, 1) := dk_27 (dk_at dksX3_before_1 3 rfl rfl)
theorem dX3_before_27 : decode cX3_before 27 = .ok (.bipush 6, 2) := dk_16 6 (dk_at dksX3_before_1 4 rfl rfl)
theorem dX3_before_29 : decode cX3_before 29 = .ok (.idiv, 1) := dk_108 (dk_at dksX3_before_1 6 rfl rfl)
theorem dX3_before_30 : decode cX3_before 30 = .ok (.invokeinterface 76 2, 5) := by decide +kernel
theorem dX3_before_35 : decode cX3_before 35 = .ok (.checkcast 82, 3) := dk_192 0 82 (dk_at dksX3_before_1 12 rfl rfl)
theorem dX3_before_38 : decode cX3_before 38 = .ok (.getfield 122, 3) := dk_180 0 122 (dk_at dksX3_before_1 15 rfl rfl)
theorem dX3_before_41 : decode cX3_before 41 = .ok (.if_icmp .ne 5, 3) := dk_160 0 5 (dk_at dksX3_before_1 18 rfl rfl)
theorem dX3_before_44 : decode cX3_before 44 = .ok (.iconst (-1), 1) := dk_2 (dk_at dksX3_before_1 21 rfl rfl)
theorem dX3_before_45 : decode cX3_before 45 = .ok (.ireturn, 1) := dk_172 (dk_at dksX3_before_1 22 rfl rfl)
theorem dX3_before_46 : decode cX3_before 46 = .ok (.iload_n 2, 1) := dk_28 (dk_at dksX3_before_1 23 rfl rfl)
theorem dX3_before_47 : decode cX3_before 47 = .ok (.ifCond .ne 23, 3) := dk_154 0 23 (dk_at dksX3_before_2 0 rfl rfl)
theorem dX3_before_50 : decode cX3_before 50 = .ok (.aload_n 0, 1) := dk_42 (dk_at dksX3_before_2 3 rfl rfl)
theorem dX3_before_51 : decode cX3_before 51 = .ok (.iload_n 1, 1) := dk_27 (dk_at dksX3_before_2 4 rfl rfl)
theorem dX3_before_52 : decode cX3_before 52 = .ok (.iconst 1, 1) := dk_4 (dk_at dksX3_before_2 5 rfl rfl)
theorem dX3_before_53 : decode cX3_before 53 = .ok (.isub, 1) := dk_100 (dk_at dksX3_before_2 6 rfl rfl)
theorem dX3_before_54 : decode cX3_before 54 = .ok (.invokevirtual 69, 3) := dk_182 0 69 (dk_at dksX3_before_2 7 rfl rfl)
theorem dX3_before_57 : decode cX3_before 57 = .ok (.aload_n 0, 1) := dk_42 (dk_at dksX3_before_2 10 rfl rfl)
theorem dX3_before_58 : decode cX3_before 58 = .ok (.getfield 18, 3) := dk_180 0 18 (dk_at dksX3_before_2 11 rfl rfl)
theorem dX3_before_61 : decode cX3_before 61 = .ok (.iload_n 1, 1) := dk_27 (dk_at dksX3_before_2 14 rfl rfl)
theorem dX3_before_62 : decode cX3_before 62 = .ok (.iaload, 1) := dk_46 (dk_at dksX3_before_2 15 rfl rfl)
theorem dX3_before_63 : decode cX3_before 63 = .ok (.if_icmp .ne 7, 3) := dk_160 0 7 (dk_at dksX3_before_2 16 rfl rfl)
theorem dX3_before_66 : decode cX3_before 66 = .ok (.iload_n 1, 1) := dk_27 (dk_at dksX3_before_2 19 rfl rfl)
theorem dX3_before_67 : decode cX3_before 67 = .ok (.iconst 1, 1) := dk_4 (dk_at dksX3_before_2 20 rfl rfl)
theorem dX3_before_68 : decode cX3_before 68 = .ok (.isub, 1) := dk_100 (dk_at dksX3_before_2 21 rfl rfl)
theorem dX3_before_69 : decode cX3_before 69 = .ok (.ireturn, 1) := dk_172 (dk_at dksX3_before_2 22 rfl rfl)
theorem dX3_before_70 : decode cX3_before 70 = .ok (.aload_n 0, 1) := dk_42 (dk_at dksX3_before_2 23 rfl rfl)
theorem dX3_before_71 : decode cX3_before 71 = .ok (.getfield 23, 3) := dk_180 0 23 (dk_at dksX3_before_3 0 rfl rfl)
theorem dX3_before_74 : decode cX3_before 74 = .ok (.aload_n 0, 1) := dk_42 (dk_at dksX3_before_3 3 rfl rfl)
theorem dX3_before_75 : decode cX3_before 75 = .ok (.getfield 26, 3) := dk_180 0 26 (dk_at dksX3_before_3 4 rfl rfl)
theorem dX3_before_78 : decode cX3_before 78 = .ok (.getfield 49, 3) := dk_180 0 49 (dk_at dksX3_before_3 7 rfl rfl)
theorem dX3_before_81 : decode cX3_before 81 = .ok (.iload_n 1, 1) := dk_27 (dk_at dksX3_before_3 10 rfl rfl)
theorem dX3_before_82 : decode cX3_before 82 = .ok (.iaload, 1) := dk_46 (dk_at dksX3_before_3 11 rfl rfl)
theorem dX3_before_83 : decode cX3_before 83 = .ok (.aaload, 1) := dk_50 (dk_at dksX3_before_3 12 rfl rfl)
theorem dX3_before_84 : decode cX3_before 84 = .ok (.aload_n 0, 1) := dk_42 (dk_at dksX3_before_3 13 rfl rfl)
theorem dX3_before_85 : decode cX3_before 85 = .ok (.iload_n 1, 1) := dk_27 (dk_at dksX3_before_3 14 rfl rfl)
theorem dX3_before_86 : decode cX3_before 86 = .ok (.invokevirtual 52, 3) := dk_182 0 52 (dk_at dksX3_before_3 15 rfl rfl)
theorem dX3_before_89 : decode cX3_before 89 = .ok (.iconst 1, 1) := dk_4 (dk_at dksX3_before_3 18 rfl rfl)
theorem dX3_before_90 : decode cX3_before 90 = .ok (.isub, 1) := dk_100 (dk_at dksX3_before_3 19 rfl rfl)
theorem dX3_before_91 : decode cX3_before 91 = .ok (.iaload, 1) := dk_46 (dk_at dksX3_before_3 20 rfl rfl)
theorem dX3_before_92 : decode cX3_before 92 = .ok (.istore_n 3, 1) := dk_62 (dk_at dksX3_before_3 21 rfl rfl)
theorem dX3_before_93 : decode cX3_before 93 = .ok (.aload_n 0, 1) := dk_42 (dk_at dksX3_before_3 22 rfl rfl)
theorem dX3_before_94 : decode cX3_before 94 = .ok (.getfield 26, 3) := dk_180 0 26 (dk_at dksX3_before_4 0 rfl rfl)
theorem dX3_before_97 : decode cX3_before 97 = .ok (.iload_n 3, 1) := dk_29 (dk_at dksX3_before_4 3 rfl rfl)
theorem dX3_before_98 : decode cX3_before 98 = .ok (.invokevirtual 66, 3) := dk_182 0 66 (dk_at dksX3_before_4 4 rfl rfl)
theorem dX3_before_101 : decode cX3_before 101 = .ok (.ifCond .eq 9, 3) := dk_153 0 9 (dk_at dksX3_before_4 7 rfl rfl)
theorem dX3_before_104 : decode cX3_before 104 = .ok (.iload_n 3, 1) := dk_29 (dk_at dksX3_before_4 10 rfl rfl)
theorem dX3_before_105 : decode cX3_before 105 = .ok (.iconst 1, 1) := dk_4 (dk_at dksX3_before_4 11 rfl rfl)
theorem dX3_before_106 : decode cX3_before 106 = .ok (.iadd, 1) := dk_96 (dk_at dksX3_before_4 12 rfl rfl)
theorem dX3_before_107 : decode cX3_before 107 = .ok (.goto 4, 3) := dk_167 0 4 (dk_at dksX3_before_4 13 rfl rfl)
theorem dX3_before_110 : decode cX3_before 110 = .ok (.iload_n 3, 1) := dk_29 (dk_at dksX3_before_4 16 rfl rfl)
theorem dX3_before_111 : decode cX3_before 111 = .ok (.ireturn, 1) := dk_172 (dk_at dksX3_before_4 17 rfl rfl)
abbrev cX3_position : ByteArray := prog_10_method_5_code
def yX3_position : MethodName := ⟨RX3, "position", "(I)I"⟩
def dkwX3_position_1 : List UInt8 := [132, 2, 1, 167, 255, 233, 28, 172]
abbrev dktX3_position_1 : List UInt8 := dkwX3_position_1 ++ []
def dkwX3_position_0 : List UInt8 := [3, 61, 42, 180, 0, 23, 42, 180, 0, 26, 180, 0, 49, 27, 46, 50, 28, 46, 27, 159, 0, 9]
abbrev dktX3_position_0 : List UInt8 := dkwX3_position_0 ++ dktX3_position_1
theorem dksX3_position_0 : cX3_position.data.toList.drop 0 = dktX3_position_0 := by decide +kernel
theorem dksX3_position_1 : cX3_position.data.toList.drop 22 = dktX3_position_1 := dk_seg dksX3_position_0 22 rfl rfl
theorem dX3_position_0 : decode cX3_position 0 = .ok (.iconst 0, 1) := dk_3 (dk_at dksX3_position_0 0 rfl rfl)
theorem dX3_position_1 : decode cX3_position 1 = .ok (.istore_n 2, 1) := dk_61 (dk_at dksX3_position_0 1 rfl rfl)
theorem dX3_position_2 : decode cX3_position 2 = .ok (.aload_n 0, 1) := dk_42 (dk_at dksX3_position_0 2 rfl rfl)
theorem dX3_position_3 : decode cX3_position 3 = .ok (.getfield 23, 3) := dk_180 0 23 (dk_at dksX3_position_0 3 rfl rfl)
theorem dX3_position_6 : decode cX3_position 6 = .ok (.aload_n 0, 1) := dk_42 (dk_at dksX3_position_0 6 rfl rfl)
theorem dX3_position_7 : decode cX3_position 7 = .ok (.getfield 26, 3) := dk_180 0 26 (dk_at dksX3_position_0 7 rfl rfl)
theorem dX3_position_10 : decode cX3_position 10 = .ok (.getfield 49, 3) := dk_180 0 49 (dk_at dksX3_position_0 10 rfl rfl)
theorem dX3_position_13 : decode cX3_position 13 = .ok (.iload_n 1, 1) := dk_27 (dk_at dksX3_position_0 13 rfl rfl)
theorem dX3_position_14 : decode cX3_position 14 = .ok (.iaload, 1) := dk_46 (dk_at dksX3_position_0 14 rfl rfl)
theorem dX3_position_15 : decode cX3_position 15 = .ok (.aaload, 1) := dk_50 (dk_at dksX3_position_0 15 rfl rfl)
theorem dX3_position_16 : decode cX3_position 16 = .ok (.iload_n 2, 1) := dk_28 (dk_at dksX3_position_0 16 rfl rfl)
theorem dX3_position_17 : decode cX3_position 17 = .ok (.iaload, 1) := dk_46 (dk_at dksX3_position_0 17 rfl rfl)
theorem dX3_position_18 : decode cX3_position 18 = .ok (.iload_n 1, 1) := dk_27 (dk_at dksX3_position_0 18 rfl rfl)
theorem dX3_position_19 : decode cX3_position 19 = .ok (.if_icmp .eq 9, 3) := dk_159 0 9 (dk_at dksX3_position_0 19 rfl rfl)
theorem dX3_position_22 : decode cX3_position 22 = .ok (.iinc 2 1, 3) := dk_132 2 1 (dk_at dksX3_position_1 0 rfl rfl)
theorem dX3_position_25 : decode cX3_position 25 = .ok (.goto (-23), 3) := dk_167 255 233 (dk_at dksX3_position_1 3 rfl rfl)
theorem dX3_position_28 : decode cX3_position 28 = .ok (.iload_n 2, 1) := dk_28 (dk_at dksX3_position_1 6 rfl rfl)
theorem dX3_position_29 : decode cX3_position 29 = .ok (.ireturn, 1) := dk_172 (dk_at dksX3_position_1 7 rfl rfl)
abbrev cX3_blocks : ByteArray := prog_10_method_20_code
def yX3_blocks : MethodName := ⟨RX3, "blocks", "()Ljava/util/List;"⟩
def dkwX3_blocks_4 : List UInt8 := [167, 0, 14, 43, 4, 184, 0, 158, 185, 0, 166, 2, 0, 87, 21, 4, 61, 167, 255, 162, 43, 176]
abbrev dktX3_blocks_4 : List UInt8 := dkwX3_blocks_4 ++ []
def dkwX3_blocks_3 : List UInt8 := [185, 0, 76, 2, 0, 192, 0, 146, 182, 0, 155, 4, 96, 184, 0, 158, 185, 0, 162, 3, 0, 87]
abbrev dktX3_blocks_3 : List UInt8 := dkwX3_blocks_3 ++ dktX3_blocks_4
def dkwX3_blocks_2 : List UInt8 := [28, 160, 0, 46, 43, 43, 185, 0, 88, 1, 0, 4, 100, 43, 43, 185, 0, 88, 1, 0, 4, 100]
abbrev dktX3_blocks_2 : List UInt8 := dkwX3_blocks_2 ++ dktX3_blocks_3
def dkwX3_blocks_1 : List UInt8 := [42, 180, 0, 26, 180, 0, 49, 45, 185, 0, 142, 1, 0, 192, 0, 146, 182, 0, 155, 46, 54, 4, 21, 4]
abbrev dktX3_blocks_1 : List UInt8 := dkwX3_blocks_1 ++ dktX3_blocks_2
def dkwX3_blocks_0 : List UInt8 := [187, 0, 152, 89, 183, 0, 154, 76, 2, 61, 42, 182, 0, 132, 78, 45, 185, 0, 136, 1, 0, 153, 0, 91]
abbrev dktX3_blocks_0 : List UInt8 := dkwX3_blocks_0 ++ dktX3_blocks_1
theorem dksX3_blocks_0 : cX3_blocks.data.toList.drop 0 = dktX3_blocks_0 := by decide +kernel
theorem dksX3_blocks_1 : cX3_blocks.data.toList.drop 24 = dktX3_blocks_1 := dk_seg dksX3_blocks_0 24 rfl rfl
theorem dksX3_blocks_2 : cX3_blocks.data.toList.drop 48 = dktX3_blocks_2 := dk_seg dksX3_blocks_1 24 rfl rfl
theorem dksX3_blocks_3 : cX3_blocks.data.toList.drop 70 = dktX3_blocks_3 := dk_seg dksX3_blocks_2 22 rfl rfl
theorem dksX3_blocks_4 : cX3_blocks.data.toList.drop 92 = dktX3_blocks_4 := dk_seg dksX3_blocks_3 22 rfl rfl
theorem dX3_blocks_0 : decode cX3_blocks 0 = .ok (.new 152, 3) := dk_187 0 152 (dk_at dksX3_blocks_0 0 rfl rfl)
theorem dX3_blocks_3 : decode cX3_blocks 3 = .ok (.dup, 1) := dk_89 (dk_at dksX3_blocks_0 3 rfl rfl)
theorem dX3_blocks_4 : decode cX3_blocks 4 = .ok (.invokespecial 154, 3) := dk_183 0 154 (dk_at dksX3_blocks_0 4 rfl rfl)
theorem dX3_blocks_7 : decode cX3_blocks 7 = .ok (.astore_n 1, 1) := dk_76 (dk_at dksX3_blocks_0 7 rfl rfl)
theorem dX3_blocks_8 : decode cX3_blocks 8 = .ok (.iconst (-1), 1) := dk_2 (dk_at dksX3_blocks_0 8 rfl rfl)
theorem dX3_blocks_9 : decode cX3_blocks 9 = .ok (.istore_n 2, 1) := dk_61 (dk_at dksX3_blocks_0 9 rfl rfl)
theorem dX3_blocks_10 : decode cX3_blocks 10 = .ok (.aload_n 0, 1) := dk_42 (dk_at dksX3_blocks_0 10 rfl rfl)
theorem dX3_blocks_11 : decode cX3_blocks 11 = .ok (.invokevirtual 132, 3) := dk_182 0 132 (dk_at dksX3_blocks_0 11 rfl rfl)
theorem dX3_blocks_14 : decode cX3_blocks 14 = .ok (.astore_n 3, 1) := dk_78 (dk_at dksX3_blocks_0 14 rfl rfl)
theorem dX3_blocks_15 : decode cX3_blocks 15 = .ok (.aload_n 3, 1) := dk_45 (dk_at dksX3_blocks_0 15 rfl rfl)
theorem dX3_blocks_16 : decode cX3_blocks 16 = .ok (.invokeinterface 136 1, 5) := by decide +kernel
theorem dX3_blocks_21 : decode cX3_blocks 21 = .ok (.ifCond .eq 91, 3) := dk_153 0 91 (dk_at dksX3_blocks_0 21 rfl rfl)
theorem dX3_blocks_24 : decode cX3_blocks 24 = .ok (.aload_n 0, 1) := dk_42 (dk_at dksX3_blocks_1 0 rfl rfl)
theorem dX3_blocks_25 : decode cX3_blocks 25 = .ok (.getfield 26, 3) := dk_180 0 26 (dk_at dksX3_blocks_1 1 rfl rfl)
theorem dX3_blocks_28 : decode cX3_blocks 28 = .ok (.getfield 49, 3) := dk_180 0 49 (dk_at dksX3_blocks_1 4 rfl rfl)
theorem dX3_blocks_31 : decode cX3_blocks 31 = .ok (.aload_n 3, 1) := dk_45 (dk_at dksX3_blocks_1 7 rfl rfl)
theorem dX3_blocks_32 : decode cX3_blocks 32 = .ok (.invokeinterface 142 1, 5) := by decide +kernel
theorem dX3_blocks_37 : decode cX3_blocks 37 = .ok (.checkcast 146, 3) := dk_192 0 146 (dk_at dksX3_blocks_1 13 rfl rfl)
theorem dX3_blocks_40 : decode cX3_blocks 40 = .ok (.invokevirtual 155, 3) := dk_182 0 155 (dk_at dksX3_blocks_1 16 rfl rfl)
theorem dX3_blocks_43 : decode cX3_blocks 43 = .ok (.iaload, 1) := dk_46 (dk_at dksX3_blocks_1 19 rfl rfl)
theorem dX3_blocks_44 : decode cX3_blocks 44 = .ok (.istore 4, 2) := dk_54 4 (dk_at dksX3_blocks_1 20 rfl rfl)
theorem dX3_blocks_46 : decode cX3_blocks 46 = .ok (.iload 4, 2) := dk_21 4 (dk_at dksX3_blocks_1 22 rfl rfl)
theorem dX3_blocks_48 : decode cX3_blocks 48 = .ok (.iload_n 2, 1) := dk_28 (dk_at dksX3_blocks_2 0 rfl rfl)
theorem dX3_blocks_49 : decode cX3_blocks 49 = .ok (.if_icmp .ne 46, 3) := dk_160 0 46 (dk_at dksX3_blocks_2 1 rfl rfl)
theorem dX3_blocks_52 : decode cX3_blocks 52 = .ok (.aload_n 1, 1) := dk_43 (dk_at dksX3_blocks_2 4 rfl rfl)
theorem dX3_blocks_53 : decode cX3_blocks 53 = .ok (.aload_n 1, 1) := dk_43 (dk_at dksX3_blocks_2 5 rfl rfl)
theorem dX3_blocks_54 : decode cX3_blocks 54 = .ok (.invokeinterface 88 1, 5) := by decide +kernel
theorem dX3_blocks_59 : decode cX3_blocks 59 = .ok (.iconst 1, 1) := dk_4 (dk_at dksX3_blocks_2 11 rfl rfl)
theorem dX3_blocks_60 : decode cX3_blocks 60 = .ok (.isub, 1) := dk_100 (dk_at dksX3_blocks_2 12 rfl rfl)
theorem dX3_blocks_61 : decode cX3_blocks 61 = .ok (.aload_n 1, 1) := dk_43 (dk_at dksX3_blocks_2 13 rfl rfl)
theorem dX3_blocks_62 : decode cX3_blocks 62 = .ok (.aload_n 1, 1) := dk_43 (dk_at dksX3_blocks_2 14 rfl rfl)
theorem dX3_blocks_63 : decode cX3_blocks 63 = .ok (.invokeinterface 88 1, 5) := by decide +kernel
theorem dX3_blocks_68 : decode cX3_blocks 68 = .ok (.iconst 1, 1) := dk_4 (dk_at dksX3_blocks_2 20 rfl rfl)
theorem dX3_blocks_69 : decode cX3_blocks 69 = .ok (.isub, 1) := dk_100 (dk_at dksX3_blocks_2 21 rfl rfl)
theorem dX3_blocks_70 : decode cX3_blocks 70 = .ok (.invokeinterface 76 2, 5) := by decide +kernel
theorem dX3_blocks_75 : decode cX3_blocks 75 = .ok (.checkcast 146, 3) := dk_192 0 146 (dk_at dksX3_blocks_3 5 rfl rfl)
theorem dX3_blocks_78 : decode cX3_blocks 78 = .ok (.invokevirtual 155, 3) := dk_182 0 155 (dk_at dksX3_blocks_3 8 rfl rfl)
theorem dX3_blocks_81 : decode cX3_blocks 81 = .ok (.iconst 1, 1) := dk_4 (dk_at dksX3_blocks_3 11 rfl rfl)
theorem dX3_blocks_82 : decode cX3_blocks 82 = .ok (.iadd, 1) := dk_96 (dk_at dksX3_blocks_3 12 rfl rfl)
theorem dX3_blocks_83 : decode cX3_blocks 83 = .ok (.invokestatic 158, 3) := dk_184 0 158 (dk_at dksX3_blocks_3 13 rfl rfl)
theorem dX3_blocks_86 : decode cX3_blocks 86 = .ok (.invokeinterface 162 3, 5) := by decide +kernel
theorem dX3_blocks_91 : decode cX3_blocks 91 = .ok (.pop, 1) := dk_87 (dk_at dksX3_blocks_3 21 rfl rfl)
theorem dX3_blocks_92 : decode cX3_blocks 92 = .ok (.goto 14, 3) := dk_167 0 14 (dk_at dksX3_blocks_4 0 rfl rfl)
theorem dX3_blocks_95 : decode cX3_blocks 95 = .ok (.aload_n 1, 1) := dk_43 (dk_at dksX3_blocks_4 3 rfl rfl)
theorem dX3_blocks_96 : decode cX3_blocks 96 = .ok (.iconst 1, 1) := dk_4 (dk_at dksX3_blocks_4 4 rfl rfl)
theorem dX3_blocks_97 : decode cX3_blocks 97 = .ok (.invokestatic 158, 3) := dk_184 0 158 (dk_at dksX3_blocks_4 5 rfl rfl)
theorem dX3_blocks_100 : decode cX3_blocks 100 = .ok (.invokeinterface 166 2, 5) := by decide +kernel
theorem dX3_blocks_105 : decode cX3_blocks 105 = .ok (.pop, 1) := dk_87 (dk_at dksX3_blocks_4 13 rfl rfl)
theorem dX3_blocks_106 : decode cX3_blocks 106 = .ok (.iload 4, 2) := dk_21 4 (dk_at dksX3_blocks_4 14 rfl rfl)
theorem dX3_blocks_108 : decode cX3_blocks 108 = .ok (.istore_n 2, 1) := dk_61 (dk_at dksX3_blocks_4 16 rfl rfl)
theorem dX3_blocks_109 : decode cX3_blocks 109 = .ok (.goto (-94), 3) := dk_167 255 162 (dk_at dksX3_blocks_4 17 rfl rfl)
theorem dX3_blocks_112 : decode cX3_blocks 112 = .ok (.aload_n 1, 1) := dk_43 (dk_at dksX3_blocks_4 20 rfl rfl)
theorem dX3_blocks_113 : decode cX3_blocks 113 = .ok (.areturn, 1) := dk_176 (dk_at dksX3_blocks_4 21 rfl rfl)
abbrev cX3_become : ByteArray := prog_10_method_3_code
def yX3_become : MethodName := ⟨RX3, "become", "(LBlockingShop$Plan;)V"⟩
def dkwX3_become_3 : List UInt8 := [132, 2, 1, 167, 255, 228, 177]
abbrev dktX3_become_3 : List UInt8 := dkwX3_become_3 ++ []
def dkwX3_become_2 : List UInt8 := [16, 6, 162, 0, 28, 43, 180, 0, 23, 28, 50, 3, 42, 180, 0, 23, 28, 50, 3, 16, 6, 184, 0, 37]
abbrev dktX3_become_2 : List UInt8 := dkwX3_become_2 ++ dktX3_become_3
def dkwX3_become_1 : List UInt8 := [3, 16, 6, 184, 0, 37, 43, 180, 0, 18, 3, 42, 180, 0, 18, 3, 16, 36, 184, 0, 37, 3, 61, 28]
abbrev dktX3_become_1 : List UInt8 := dkwX3_become_1 ++ dktX3_become_2
def dkwX3_become_0 : List UInt8 := [43, 180, 0, 9, 3, 42, 180, 0, 9, 3, 16, 36, 184, 0, 37, 43, 180, 0, 15, 3, 42, 180, 0, 15]
abbrev dktX3_become_0 : List UInt8 := dkwX3_become_0 ++ dktX3_become_1
theorem dksX3_become_0 : cX3_become.data.toList.drop 0 = dktX3_become_0 := by decide +kernel
theorem dksX3_become_1 : cX3_become.data.toList.drop 24 = dktX3_become_1 := dk_seg dksX3_become_0 24 rfl rfl
theorem dksX3_become_2 : cX3_become.data.toList.drop 48 = dktX3_become_2 := dk_seg dksX3_become_1 24 rfl rfl
theorem dksX3_become_3 : cX3_become.data.toList.drop 72 = dktX3_become_3 := dk_seg dksX3_become_2 24 rfl rfl
theorem dX3_become_0 : decode cX3_become 0 = .ok (.aload_n 1, 1) := dk_43 (dk_at dksX3_become_0 0 rfl rfl)
theorem dX3_become_1 : decode cX3_become 1 = .ok (.getfield 9, 3) := dk_180 0 9 (dk_at dksX3_become_0 1 rfl rfl)
theorem dX3_become_4 : decode cX3_become 4 = .ok (.iconst 0, 1) := dk_3 (dk_at dksX3_become_0 4 rfl rfl)
theorem dX3_become_5 : decode cX3_become 5 = .ok (.aload_n 0, 1) := dk_42 (dk_at dksX3_become_0 5 rfl rfl)
theorem dX3_become_6 : decode cX3_become 6 = .ok (.getfield 9, 3) := dk_180 0 9 (dk_at dksX3_become_0 6 rfl rfl)
theorem dX3_become_9 : decode cX3_become 9 = .ok (.iconst 0, 1) := dk_3 (dk_at dksX3_become_0 9 rfl rfl)
theorem dX3_become_10 : decode cX3_become 10 = .ok (.bipush 36, 2) := dk_16 36 (dk_at dksX3_become_0 10 rfl rfl)
theorem dX3_become_12 : decode cX3_become 12 = .ok (.invokestatic 37, 3) := dk_184 0 37 (dk_at dksX3_become_0 12 rfl rfl)
theorem dX3_become_15 : decode cX3_become 15 = .ok (.aload_n 1, 1) := dk_43 (dk_at dksX3_become_0 15 rfl rfl)
theorem dX3_become_16 : decode cX3_become 16 = .ok (.getfield 15, 3) := dk_180 0 15 (dk_at dksX3_become_0 16 rfl rfl)
theorem dX3_become_19 : decode cX3_become 19 = .ok (.iconst 0, 1) := dk_3 (dk_at dksX3_become_0 19 rfl rfl)
theorem dX3_become_20 : decode cX3_become 20 = .ok (.aload_n 0, 1) := dk_42 (dk_at dksX3_become_0 20 rfl rfl)
theorem dX3_become_21 : decode cX3_become 21 = .ok (.getfield 15, 3) := dk_180 0 15 (dk_at dksX3_become_0 21 rfl rfl)
theorem dX3_become_24 : decode cX3_become 24 = .ok (.iconst 0, 1) := dk_3 (dk_at dksX3_become_1 0 rfl rfl)
theorem dX3_become_25 : decode cX3_become 25 = .ok (.bipush 6, 2) := dk_16 6 (dk_at dksX3_become_1 1 rfl rfl)
theorem dX3_become_27 : decode cX3_become 27 = .ok (.invokestatic 37, 3) := dk_184 0 37 (dk_at dksX3_become_1 3 rfl rfl)
theorem dX3_become_30 : decode cX3_become 30 = .ok (.aload_n 1, 1) := dk_43 (dk_at dksX3_become_1 6 rfl rfl)
theorem dX3_become_31 : decode cX3_become 31 = .ok (.getfield 18, 3) := dk_180 0 18 (dk_at dksX3_become_1 7 rfl rfl)
theorem dX3_become_34 : decode cX3_become 34 = .ok (.iconst 0, 1) := dk_3 (dk_at dksX3_become_1 10 rfl rfl)
theorem dX3_become_35 : decode cX3_become 35 = .ok (.aload_n 0, 1) := dk_42 (dk_at dksX3_become_1 11 rfl rfl)
theorem dX3_become_36 : decode cX3_become 36 = .ok (.getfield 18, 3) := dk_180 0 18 (dk_at dksX3_become_1 12 rfl rfl)
theorem dX3_become_39 : decode cX3_become 39 = .ok (.iconst 0, 1) := dk_3 (dk_at dksX3_become_1 15 rfl rfl)
theorem dX3_become_40 : decode cX3_become 40 = .ok (.bipush 36, 2) := dk_16 36 (dk_at dksX3_become_1 16 rfl rfl)
theorem dX3_become_42 : decode cX3_become 42 = .ok (.invokestatic 37, 3) := dk_184 0 37 (dk_at dksX3_become_1 18 rfl rfl)
theorem dX3_become_45 : decode cX3_become 45 = .ok (.iconst 0, 1) := dk_3 (dk_at dksX3_become_1 21 rfl rfl)
theorem dX3_become_46 : decode cX3_become 46 = .ok (.istore_n 2, 1) := dk_61 (dk_at dksX3_become_1 22 rfl rfl)
theorem dX3_become_47 : decode cX3_become 47 = .ok (.iload_n 2, 1) := dk_28 (dk_at dksX3_become_1 23 rfl rfl)
theorem dX3_become_48 : decode cX3_become 48 = .ok (.bipush 6, 2) := dk_16 6 (dk_at dksX3_become_2 0 rfl rfl)
theorem dX3_become_50 : decode cX3_become 50 = .ok (.if_icmp .ge 28, 3) := dk_162 0 28 (dk_at dksX3_become_2 2 rfl rfl)
theorem dX3_become_53 : decode cX3_become 53 = .ok (.aload_n 1, 1) := dk_43 (dk_at dksX3_become_2 5 rfl rfl)
theorem dX3_become_54 : decode cX3_become 54 = .ok (.getfield 23, 3) := dk_180 0 23 (dk_at dksX3_become_2 6 rfl rfl)
theorem dX3_become_57 : decode cX3_become 57 = .ok (.iload_n 2, 1) := dk_28 (dk_at dksX3_become_2 9 rfl rfl)
theorem dX3_become_58 : decode cX3_become 58 = .ok (.aaload, 1) := dk_50 (dk_at dksX3_become_2 10 rfl rfl)
theorem dX3_become_59 : decode cX3_become 59 = .ok (.iconst 0, 1) := dk_3 (dk_at dksX3_become_2 11 rfl rfl)
theorem dX3_become_60 : decode cX3_become 60 = .ok (.aload_n 0, 1) := dk_42 (dk_at dksX3_become_2 12 rfl rfl)
theorem dX3_become_61 : decode cX3_become 61 = .ok (.getfield 23, 3) := dk_180 0 23 (dk_at dksX3_become_2 13 rfl rfl)
theorem dX3_become_64 : decode cX3_become 64 = .ok (.iload_n 2, 1) := dk_28 (dk_at dksX3_become_2 16 rfl rfl)
theorem dX3_become_65 : decode cX3_become 65 = .ok (.aaload, 1) := dk_50 (dk_at dksX3_become_2 17 rfl rfl)
theorem dX3_become_66 : decode cX3_become 66 = .ok (.iconst 0, 1) := dk_3 (dk_at dksX3_become_2 18 rfl rfl)
theorem dX3_become_67 : decode cX3_become 67 = .ok (.bipush 6, 2) := dk_16 6 (dk_at dksX3_become_2 19 rfl rfl)
theorem dX3_become_69 : decode cX3_become 69 = .ok (.invokestatic 37, 3) := dk_184 0 37 (dk_at dksX3_become_2 21 rfl rfl)
theorem dX3_become_72 : decode cX3_become 72 = .ok (.iinc 2 1, 3) := dk_132 2 1 (dk_at dksX3_become_3 0 rfl rfl)
theorem dX3_become_75 : decode cX3_become 75 = .ok (.goto (-28), 3) := dk_167 255 228 (dk_at dksX3_become_3 3 rfl rfl)
theorem dX3_become_78 : decode cX3_become 78 = .ok (.return_, 1) := dk_177 (dk_at dksX3_become_3 6 rfl rfl)
abbrev cX3_swap : ByteArray := prog_10_method_6_code
def yX3_swap : MethodName := ⟨RX3, "swap", "(II)V"⟩
def dkwX3_swap_1 : List UInt8 := [96, 46, 79, 42, 180, 0, 23, 27, 50, 28, 4, 96, 29, 79, 177]
abbrev dktX3_swap_1 : List UInt8 := dkwX3_swap_1 ++ []
def dkwX3_swap_0 : List UInt8 := [42, 180, 0, 23, 27, 50, 28, 46, 62, 42, 180, 0, 23, 27, 50, 28, 42, 180, 0, 23, 27, 50, 28, 4]
abbrev dktX3_swap_0 : List UInt8 := dkwX3_swap_0 ++ dktX3_swap_1
theorem dksX3_swap_0 : cX3_swap.data.toList.drop 0 = dktX3_swap_0 := by decide +kernel
theorem dksX3_swap_1 : cX3_swap.data.toList.drop 24 = dktX3_swap_1 := dk_seg dksX3_swap_0 24 rfl rfl
theorem dX3_swap_0 : decode cX3_swap 0 = .ok (.aload_n 0, 1) := dk_42 (dk_at dksX3_swap_0 0 rfl rfl)
theorem dX3_swap_1 : decode cX3_swap 1 = .ok (.getfield 23, 3) := dk_180 0 23 (dk_at dksX3_swap_0 1 rfl rfl)
theorem dX3_swap_4 : decode cX3_swap 4 = .ok (.iload_n 1, 1) := dk_27 (dk_at dksX3_swap_0 4 rfl rfl)
theorem dX3_swap_5 : decode cX3_swap 5 = .ok (.aaload, 1) := dk_50 (dk_at dksX3_swap_0 5 rfl rfl)
theorem dX3_swap_6 : decode cX3_swap 6 = .ok (.iload_n 2, 1) := dk_28 (dk_at dksX3_swap_0 6 rfl rfl)
theorem dX3_swap_7 : decode cX3_swap 7 = .ok (.iaload, 1) := dk_46 (dk_at dksX3_swap_0 7 rfl rfl)
theorem dX3_swap_8 : decode cX3_swap 8 = .ok (.istore_n 3, 1) := dk_62 (dk_at dksX3_swap_0 8 rfl rfl)
theorem dX3_swap_9 : decode cX3_swap 9 = .ok (.aload_n 0, 1) := dk_42 (dk_at dksX3_swap_0 9 rfl rfl)
theorem dX3_swap_10 : decode cX3_swap 10 = .ok (.getfield 23, 3) := dk_180 0 23 (dk_at dksX3_swap_0 10 rfl rfl)
theorem dX3_swap_13 : decode cX3_swap 13 = .ok (.iload_n 1, 1) := dk_27 (dk_at dksX3_swap_0 13 rfl rfl)
theorem dX3_swap_14 : decode cX3_swap 14 = .ok (.aaload, 1) := dk_50 (dk_at dksX3_swap_0 14 rfl rfl)
theorem dX3_swap_15 : decode cX3_swap 15 = .ok (.iload_n 2, 1) := dk_28 (dk_at dksX3_swap_0 15 rfl rfl)
theorem dX3_swap_16 : decode cX3_swap 16 = .ok (.aload_n 0, 1) := dk_42 (dk_at dksX3_swap_0 16 rfl rfl)
theorem dX3_swap_17 : decode cX3_swap 17 = .ok (.getfield 23, 3) := dk_180 0 23 (dk_at dksX3_swap_0 17 rfl rfl)
theorem dX3_swap_20 : decode cX3_swap 20 = .ok (.iload_n 1, 1) := dk_27 (dk_at dksX3_swap_0 20 rfl rfl)
theorem dX3_swap_21 : decode cX3_swap 21 = .ok (.aaload, 1) := dk_50 (dk_at dksX3_swap_0 21 rfl rfl)
theorem dX3_swap_22 : decode cX3_swap 22 = .ok (.iload_n 2, 1) := dk_28 (dk_at dksX3_swap_0 22 rfl rfl)
theorem dX3_swap_23 : decode cX3_swap 23 = .ok (.iconst 1, 1) := dk_4 (dk_at dksX3_swap_0 23 rfl rfl)
theorem dX3_swap_24 : decode cX3_swap 24 = .ok (.iadd, 1) := dk_96 (dk_at dksX3_swap_1 0 rfl rfl)
theorem dX3_swap_25 : decode cX3_swap 25 = .ok (.iaload, 1) := dk_46 (dk_at dksX3_swap_1 1 rfl rfl)
theorem dX3_swap_26 : decode cX3_swap 26 = .ok (.iastore, 1) := dk_79 (dk_at dksX3_swap_1 2 rfl rfl)
theorem dX3_swap_27 : decode cX3_swap 27 = .ok (.aload_n 0, 1) := dk_42 (dk_at dksX3_swap_1 3 rfl rfl)
theorem dX3_swap_28 : decode cX3_swap 28 = .ok (.getfield 23, 3) := dk_180 0 23 (dk_at dksX3_swap_1 4 rfl rfl)
theorem dX3_swap_31 : decode cX3_swap 31 = .ok (.iload_n 1, 1) := dk_27 (dk_at dksX3_swap_1 7 rfl rfl)
theorem dX3_swap_32 : decode cX3_swap 32 = .ok (.aaload, 1) := dk_50 (dk_at dksX3_swap_1 8 rfl rfl)
theorem dX3_swap_33 : decode cX3_swap 33 = .ok (.iload_n 2, 1) := dk_28 (dk_at dksX3_swap_1 9 rfl rfl)
theorem dX3_swap_34 : decode cX3_swap 34 = .ok (.iconst 1, 1) := dk_4 (dk_at dksX3_swap_1 10 rfl rfl)
theorem dX3_swap_35 : decode cX3_swap 35 = .ok (.iadd, 1) := dk_96 (dk_at dksX3_swap_1 11 rfl rfl)
theorem dX3_swap_36 : decode cX3_swap 36 = .ok (.iload_n 3, 1) := dk_29 (dk_at dksX3_swap_1 12 rfl rfl)
theorem dX3_swap_37 : decode cX3_swap 37 = .ok (.iastore, 1) := dk_79 (dk_at dksX3_swap_1 13 rfl rfl)
theorem dX3_swap_38 : decode cX3_swap 38 = .ok (.return_, 1) := dk_177 (dk_at dksX3_swap_1 14 rfl rfl)
abbrev cX3_times : ByteArray := prog_10_method_8_code
def yX3_times : MethodName := ⟨RX3, "times", "(LBlockingShop$Graph;)Z"⟩
def dkwX3_times_1 : List UInt8 := [184, 0, 37, 28, 172]
abbrev dktX3_times_1 : List UInt8 := dkwX3_times_1 ++ []
def dkwX3_times_0 : List UInt8 := [43, 42, 182, 0, 60, 61, 28, 153, 0, 18, 43, 180, 0, 65, 3, 42, 180, 0, 18, 3, 16, 36]
abbrev dktX3_times_0 : List UInt8 := dkwX3_times_0 ++ dktX3_times_1
theorem dksX3_times_0 : cX3_times.data.toList.drop 0 = dktX3_times_0 := by decide +kernel
theorem dksX3_times_1 : cX3_times.data.toList.drop 22 = dktX3_times_1 := dk_seg dksX3_times_0 22 rfl rfl
theorem dX3_times_0 : decode cX3_times 0 = .ok (.aload_n 1, 1) := dk_43 (dk_at dksX3_times_0 0 rfl rfl)
theorem dX3_times_1 : decode cX3_times 1 = .ok (.aload_n 0, 1) := dk_42 (dk_at dksX3_times_0 1 rfl rfl)
theorem dX3_times_2 : decode cX3_times 2 = .ok (.invokevirtual 60, 3) := dk_182 0 60 (dk_at dksX3_times_0 2 rfl rfl)
theorem dX3_times_5 : decode cX3_times 5 = .ok (.istore_n 2, 1) := dk_61 (dk_at dksX3_times_0 5 rfl rfl)
theorem dX3_times_6 : decode cX3_times 6 = .ok (.iload_n 2, 1) := dk_28 (dk_at dksX3_times_0 6 rfl rfl)
theorem dX3_times_7 : decode cX3_times 7 = .ok (.ifCond .eq 18, 3) := dk_153 0 18 (dk_at dksX3_times_0 7 rfl rfl)
theorem dX3_times_10 : decode cX3_times 10 = .ok (.aload_n 1, 1) := dk_43 (dk_at dksX3_times_0 10 rfl rfl)
theorem dX3_times_11 : decode cX3_times 11 = .ok (.getfield 65, 3) := dk_180 0 65 (dk_at dksX3_times_0 11 rfl rfl)
theorem dX3_times_14 : decode cX3_times 14 = .ok (.iconst 0, 1) := dk_3 (dk_at dksX3_times_0 14 rfl rfl)
theorem dX3_times_15 : decode cX3_times 15 = .ok (.aload_n 0, 1) := dk_42 (dk_at dksX3_times_0 15 rfl rfl)
theorem dX3_times_16 : decode cX3_times 16 = .ok (.getfield 18, 3) := dk_180 0 18 (dk_at dksX3_times_0 16 rfl rfl)
theorem dX3_times_19 : decode cX3_times 19 = .ok (.iconst 0, 1) := dk_3 (dk_at dksX3_times_0 19 rfl rfl)
theorem dX3_times_20 : decode cX3_times 20 = .ok (.bipush 36, 2) := dk_16 36 (dk_at dksX3_times_0 20 rfl rfl)
theorem dX3_times_22 : decode cX3_times 22 = .ok (.invokestatic 37, 3) := dk_184 0 37 (dk_at dksX3_times_1 0 rfl rfl)
theorem dX3_times_25 : decode cX3_times 25 = .ok (.iload_n 2, 1) := dk_28 (dk_at dksX3_times_1 3 rfl rfl)
theorem dX3_times_26 : decode cX3_times 26 = .ok (.ireturn, 1) := dk_172 (dk_at dksX3_times_1 4 rfl rfl)
abbrev cX3_isBetter : ByteArray := prog_10_method_15_code
def yX3_isBetter : MethodName := ⟨RX3, "isBetter", "(LBlockingShop$Plan;)Z"⟩
def dkwX3_isBetter_1 : List UInt8 := [182, 0, 117, 43, 182, 0, 117, 162, 0, 7, 4, 167, 0, 4, 3, 172]
abbrev dktX3_isBetter_1 : List UInt8 := dkwX3_isBetter_1 ++ []
def dkwX3_isBetter_0 : List UInt8 := [42, 182, 0, 114, 43, 182, 0, 114, 161, 0, 25, 42, 182, 0, 114, 43, 182, 0, 114, 160, 0, 18, 42]
abbrev dktX3_isBetter_0 : List UInt8 := dkwX3_isBetter_0 ++ dktX3_isBetter_1
theorem dksX3_isBetter_0 : cX3_isBetter.data.toList.drop 0 = dktX3_isBetter_0 := by decide +kernel
theorem dksX3_isBetter_1 : cX3_isBetter.data.toList.drop 23 = dktX3_isBetter_1 := dk_seg dksX3_isBetter_0 23 rfl rfl
theorem dX3_isBetter_0 : decode cX3_isBetter 0 = .ok (.aload_n 0, 1) := dk_42 (dk_at dksX3_isBetter_0 0 rfl rfl)
theorem dX3_isBetter_1 : decode cX3_isBetter 1 = .ok (.invokevirtual 114, 3) := dk_182 0 114 (dk_at dksX3_isBetter_0 1 rfl rfl)
theorem dX3_isBetter_4 : decode cX3_isBetter 4 = .ok (.aload_n 1, 1) := dk_43 (dk_at dksX3_isBetter_0 4 rfl rfl)
theorem dX3_isBetter_5 : decode cX3_isBetter 5 = .ok (.invokevirtual 114, 3) := dk_182 0 114 (dk_at dksX3_isBetter_0 5 rfl rfl)
theorem dX3_isBetter_8 : decode cX3_isBetter 8 = .ok (.if_icmp .lt 25, 3) := dk_161 0 25 (dk_at dksX3_isBetter_0 8 rfl rfl)
theorem dX3_isBetter_11 : decode cX3_isBetter 11 = .ok (.aload_n 0, 1) := dk_42 (dk_at dksX3_isBetter_0 11 rfl rfl)
theorem dX3_isBetter_12 : decode cX3_isBetter 12 = .ok (.invokevirtual 114, 3) := dk_182 0 114 (dk_at dksX3_isBetter_0 12 rfl rfl)
theorem dX3_isBetter_15 : decode cX3_isBetter 15 = .ok (.aload_n 1, 1) := dk_43 (dk_at dksX3_isBetter_0 15 rfl rfl)
theorem dX3_isBetter_16 : decode cX3_isBetter 16 = .ok (.invokevirtual 114, 3) := dk_182 0 114 (dk_at dksX3_isBetter_0 16 rfl rfl)
theorem dX3_isBetter_19 : decode cX3_isBetter 19 = .ok (.if_icmp .ne 18, 3) := dk_160 0 18 (dk_at dksX3_isBetter_0 19 rfl rfl)
theorem dX3_isBetter_22 : decode cX3_isBetter 22 = .ok (.aload_n 0, 1) := dk_42 (dk_at dksX3_isBetter_0 22 rfl rfl)
theorem dX3_isBetter_23 : decode cX3_isBetter 23 = .ok (.invokevirtual 117, 3) := dk_182 0 117 (dk_at dksX3_isBetter_1 0 rfl rfl)
theorem dX3_isBetter_26 : decode cX3_isBetter 26 = .ok (.aload_n 1, 1) := dk_43 (dk_at dksX3_isBetter_1 3 rfl rfl)
theorem dX3_isBetter_27 : decode cX3_isBetter 27 = .ok (.invokevirtual 117, 3) := dk_182 0 117 (dk_at dksX3_isBetter_1 4 rfl rfl)
theorem dX3_isBetter_30 : decode cX3_isBetter 30 = .ok (.if_icmp .ge 7, 3) := dk_162 0 7 (dk_at dksX3_isBetter_1 7 rfl rfl)
theorem dX3_isBetter_33 : decode cX3_isBetter 33 = .ok (.iconst 1, 1) := dk_4 (dk_at dksX3_isBetter_1 10 rfl rfl)
theorem dX3_isBetter_34 : decode cX3_isBetter 34 = .ok (.goto 4, 3) := dk_167 0 4 (dk_at dksX3_isBetter_1 11 rfl rfl)
theorem dX3_isBetter_37 : decode cX3_isBetter 37 = .ok (.iconst 0, 1) := dk_3 (dk_at dksX3_isBetter_1 14 rfl rfl)
theorem dX3_isBetter_38 : decode cX3_isBetter 38 = .ok (.ireturn, 1) := dk_172 (dk_at dksX3_isBetter_1 15 rfl rfl)
abbrev cX3_copy : ByteArray := prog_10_method_2_code
def yX3_copy : MethodName := ⟨RX3, "copy", "()LBlockingShop$Plan;"⟩
def dkwX3_copy_0 : List UInt8 := [187, 0, 10, 89, 42, 180, 0, 26, 183, 0, 30, 76, 43, 42, 182, 0, 33, 43, 176]
abbrev dktX3_copy_0 : List UInt8 := dkwX3_copy_0 ++ []
theorem dksX3_copy_0 : cX3_copy.data.toList.drop 0 = dktX3_copy_0 := by decide +kernel
theorem dX3_copy_0 : decode cX3_copy 0 = .ok (.new 10, 3) := dk_187 0 10 (dk_at dksX3_copy_0 0 rfl rfl)
theorem dX3_copy_3 : decode cX3_copy 3 = .ok (.dup, 1) := dk_89 (dk_at dksX3_copy_0 3 rfl rfl)
theorem dX3_copy_4 : decode cX3_copy 4 = .ok (.aload_n 0, 1) := dk_42 (dk_at dksX3_copy_0 4 rfl rfl)
theorem dX3_copy_5 : decode cX3_copy 5 = .ok (.getfield 26, 3) := dk_180 0 26 (dk_at dksX3_copy_0 5 rfl rfl)
theorem dX3_copy_8 : decode cX3_copy 8 = .ok (.invokespecial 30, 3) := dk_183 0 30 (dk_at dksX3_copy_0 8 rfl rfl)
theorem dX3_copy_11 : decode cX3_copy 11 = .ok (.astore_n 1, 1) := dk_76 (dk_at dksX3_copy_0 11 rfl rfl)
theorem dX3_copy_12 : decode cX3_copy 12 = .ok (.aload_n 1, 1) := dk_43 (dk_at dksX3_copy_0 12 rfl rfl)
theorem dX3_copy_13 : decode cX3_copy 13 = .ok (.aload_n 0, 1) := dk_42 (dk_at dksX3_copy_0 13 rfl rfl)
theorem dX3_copy_14 : decode cX3_copy 14 = .ok (.invokevirtual 33, 3) := dk_182 0 33 (dk_at dksX3_copy_0 14 rfl rfl)
theorem dX3_copy_17 : decode cX3_copy 17 = .ok (.aload_n 1, 1) := dk_43 (dk_at dksX3_copy_0 17 rfl rfl)
theorem dX3_copy_18 : decode cX3_copy 18 = .ok (.areturn, 1) := dk_176 (dk_at dksX3_copy_0 18 rfl rfl)
abbrev cX3_first : ByteArray := prog_10_method_4_code
def yX3_first : MethodName := ⟨RX3, "first", "()V"⟩
def dkwX3_first_3 : List UInt8 := [28, 92, 46, 4, 96, 79, 132, 1, 1, 167, 255, 199, 177]
abbrev dktX3_first_3 : List UInt8 := dkwX3_first_3 ++ []
def dkwX3_first_2 : List UInt8 := [180, 0, 49, 27, 46, 61, 42, 180, 0, 23, 28, 50, 42, 180, 0, 15, 28, 46, 27, 79, 42, 180, 0, 15]
abbrev dktX3_first_2 : List UInt8 := dkwX3_first_2 ++ dktX3_first_3
def dkwX3_first_1 : List UInt8 := [16, 36, 162, 0, 57, 42, 180, 0, 26, 27, 182, 0, 43, 154, 0, 6, 167, 0, 37, 42, 180, 0, 26]
abbrev dktX3_first_1 : List UInt8 := dkwX3_first_1 ++ dktX3_first_2
def dkwX3_first_0 : List UInt8 := [3, 60, 27, 16, 6, 162, 0, 16, 42, 180, 0, 15, 27, 3, 79, 132, 1, 1, 167, 255, 240, 3, 60, 27]
abbrev dktX3_first_0 : List UInt8 := dkwX3_first_0 ++ dktX3_first_1
theorem dksX3_first_0 : cX3_first.data.toList.drop 0 = dktX3_first_0 := by decide +kernel
theorem dksX3_first_1 : cX3_first.data.toList.drop 24 = dktX3_first_1 := dk_seg dksX3_first_0 24 rfl rfl
theorem dksX3_first_2 : cX3_first.data.toList.drop 47 = dktX3_first_2 := dk_seg dksX3_first_1 23 rfl rfl
theorem dksX3_first_3 : cX3_first.data.toList.drop 71 = dktX3_first_3 := dk_seg dksX3_first_2 24 rfl rfl
theorem dX3_first_0 : decode cX3_first 0 = .ok (.iconst 0, 1) := dk_3 (dk_at dksX3_first_0 0 rfl rfl)
theorem dX3_first_1 : decode cX3_first 1 = .ok (.istore_n 1, 1) := dk_60 (dk_at dksX3_first_0 1 rfl rfl)
theorem dX3_first_2 : decode cX3_first 2 = .ok (.iload_n 1, 1) := dk_27 (dk_at dksX3_first_0 2 rfl rfl)
theorem dX3_first_3 : decode cX3_first 3 = .ok (.bipush 6, 2) := dk_16 6 (dk_at dksX3_first_0 3 rfl rfl)
theorem dX3_first_5 : decode cX3_first 5 = .ok (.if_icmp .ge 16, 3) := dk_162 0 16 (dk_at dksX3_first_0 5 rfl rfl)
theorem dX3_first_8 : decode cX3_first 8 = .ok (.aload_n 0, 1) := dk_42 (dk_at dksX3_first_0 8 rfl rfl)
theorem dX3_first_9 : decode cX3_first 9 = .ok (.getfield 15, 3) := dk_180 0 15 (dk_at dksX3_first_0 9 rfl rfl)
theorem dX3_first_12 : decode cX3_first 12 = .ok (.iload_n 1, 1) := dk_27 (dk_at dksX3_first_0 12 rfl rfl)
theorem dX3_first_13 : decode cX3_first 13 = .ok (.iconst 0, 1) := dk_3 (dk_at dksX3_first_0 13 rfl rfl)
theorem dX3_first_14 : decode cX3_first 14 = .ok (.iastore, 1) := dk_79 (dk_at dksX3_first_0 14 rfl rfl)
theorem dX3_first_15 : decode cX3_first 15 = .ok (.iinc 1 1, 3) := dk_132 1 1 (dk_at dksX3_first_0 15 rfl rfl)
theorem dX3_first_18 : decode cX3_first 18 = .ok (.goto (-16), 3) := dk_167 255 240 (dk_at dksX3_first_0 18 rfl rfl)
theorem dX3_first_21 : decode cX3_first 21 = .ok (.iconst 0, 1) := dk_3 (dk_at dksX3_first_0 21 rfl rfl)
theorem dX3_first_22 : decode cX3_first 22 = .ok (.istore_n 1, 1) := dk_60 (dk_at dksX3_first_0 22 rfl rfl)
theorem dX3_first_23 : decode cX3_first 23 = .ok (.iload_n 1, 1) := dk_27 (dk_at dksX3_first_0 23 rfl rfl)
theorem dX3_first_24 : decode cX3_first 24 = .ok (.bipush 36, 2) := dk_16 36 (dk_at dksX3_first_1 0 rfl rfl)
theorem dX3_first_26 : decode cX3_first 26 = .ok (.if_icmp .ge 57, 3) := dk_162 0 57 (dk_at dksX3_first_1 2 rfl rfl)
theorem dX3_first_29 : decode cX3_first 29 = .ok (.aload_n 0, 1) := dk_42 (dk_at dksX3_first_1 5 rfl rfl)
theorem dX3_first_30 : decode cX3_first 30 = .ok (.getfield 26, 3) := dk_180 0 26 (dk_at dksX3_first_1 6 rfl rfl)
theorem dX3_first_33 : decode cX3_first 33 = .ok (.iload_n 1, 1) := dk_27 (dk_at dksX3_first_1 9 rfl rfl)
theorem dX3_first_34 : decode cX3_first 34 = .ok (.invokevirtual 43, 3) := dk_182 0 43 (dk_at dksX3_first_1 10 rfl rfl)
theorem dX3_first_37 : decode cX3_first 37 = .ok (.ifCond .ne 6, 3) := dk_154 0 6 (dk_at dksX3_first_1 13 rfl rfl)
theorem dX3_first_40 : decode cX3_first 40 = .ok (.goto 37, 3) := dk_167 0 37 (dk_at dksX3_first_1 16 rfl rfl)
theorem dX3_first_43 : decode cX3_first 43 = .ok (.aload_n 0, 1) := dk_42 (dk_at dksX3_first_1 19 rfl rfl)
theorem dX3_first_44 : decode cX3_first 44 = .ok (.getfield 26, 3) := dk_180 0 26 (dk_at dksX3_first_1 20 rfl rfl)
theorem dX3_first_47 : decode cX3_first 47 = .ok (.getfield 49, 3) := dk_180 0 49 (dk_at dksX3_first_2 0 rfl rfl)
theorem dX3_first_50 : decode cX3_first 50 = .ok (.iload_n 1, 1) := dk_27 (dk_at dksX3_first_2 3 rfl rfl)
theorem dX3_first_51 : decode cX3_first 51 = .ok (.iaload, 1) := dk_46 (dk_at dksX3_first_2 4 rfl rfl)
theorem dX3_first_52 : decode cX3_first 52 = .ok (.istore_n 2, 1) := dk_61 (dk_at dksX3_first_2 5 rfl rfl)
theorem dX3_first_53 : decode cX3_first 53 = .ok (.aload_n 0, 1) := dk_42 (dk_at dksX3_first_2 6 rfl rfl)
theorem dX3_first_54 : decode cX3_first 54 = .ok (.getfield 23, 3) := dk_180 0 23 (dk_at dksX3_first_2 7 rfl rfl)
theorem dX3_first_57 : decode cX3_first 57 = .ok (.iload_n 2, 1) := dk_28 (dk_at dksX3_first_2 10 rfl rfl)
theorem dX3_first_58 : decode cX3_first 58 = .ok (.aaload, 1) := dk_50 (dk_at dksX3_first_2 11 rfl rfl)
theorem dX3_first_59 : decode cX3_first 59 = .ok (.aload_n 0, 1) := dk_42 (dk_at dksX3_first_2 12 rfl rfl)
theorem dX3_first_60 : decode cX3_first 60 = .ok (.getfield 15, 3) := dk_180 0 15 (dk_at dksX3_first_2 13 rfl rfl)
theorem dX3_first_63 : decode cX3_first 63 = .ok (.iload_n 2, 1) := dk_28 (dk_at dksX3_first_2 16 rfl rfl)
theorem dX3_first_64 : decode cX3_first 64 = .ok (.iaload, 1) := dk_46 (dk_at dksX3_first_2 17 rfl rfl)
theorem dX3_first_65 : decode cX3_first 65 = .ok (.iload_n 1, 1) := dk_27 (dk_at dksX3_first_2 18 rfl rfl)
theorem dX3_first_66 : decode cX3_first 66 = .ok (.iastore, 1) := dk_79 (dk_at dksX3_first_2 19 rfl rfl)
theorem dX3_first_67 : decode cX3_first 67 = .ok (.aload_n 0, 1) := dk_42 (dk_at dksX3_first_2 20 rfl rfl)
theorem dX3_first_68 : decode cX3_first 68 = .ok (.getfield 15, 3) := dk_180 0 15 (dk_at dksX3_first_2 21 rfl rfl)
theorem dX3_first_71 : decode cX3_first 71 = .ok (.iload_n 2, 1) := dk_28 (dk_at dksX3_first_3 0 rfl rfl)
theorem dX3_first_72 : decode cX3_first 72 = .ok (.dup2, 1) := dk_92 (dk_at dksX3_first_3 1 rfl rfl)
theorem dX3_first_73 : decode cX3_first 73 = .ok (.iaload, 1) := dk_46 (dk_at dksX3_first_3 2 rfl rfl)
theorem dX3_first_74 : decode cX3_first 74 = .ok (.iconst 1, 1) := dk_4 (dk_at dksX3_first_3 3 rfl rfl)
theorem dX3_first_75 : decode cX3_first 75 = .ok (.iadd, 1) := dk_96 (dk_at dksX3_first_3 4 rfl rfl)
theorem dX3_first_76 : decode cX3_first 76 = .ok (.iastore, 1) := dk_79 (dk_at dksX3_first_3 5 rfl rfl)
theorem dX3_first_77 : decode cX3_first 77 = .ok (.iinc 1 1, 3) := dk_132 1 1 (dk_at dksX3_first_3 6 rfl rfl)
theorem dX3_first_80 : decode cX3_first 80 = .ok (.goto (-57), 3) := dk_167 255 199 (dk_at dksX3_first_3 9 rfl rfl)
theorem dX3_first_83 : decode cX3_first 83 = .ok (.return_, 1) := dk_177 (dk_at dksX3_first_3 12 rfl rfl)
abbrev cX3_leave : ByteArray := prog_10_method_10_code
def yX3_leave : MethodName := ⟨RX3, "leave", "(I)I"⟩
def dkwX3_leave_1 : List UInt8 := [182, 0, 69, 172]
abbrev dktX3_leave_1 : List UInt8 := dkwX3_leave_1 ++ []
def dkwX3_leave_0 : List UInt8 := [42, 180, 0, 26, 27, 182, 0, 66, 153, 0, 14, 42, 180, 0, 18, 27, 4, 96, 46, 167, 0, 8, 42, 27]
abbrev dktX3_leave_0 : List UInt8 := dkwX3_leave_0 ++ dktX3_leave_1
theorem dksX3_leave_0 : cX3_leave.data.toList.drop 0 = dktX3_leave_0 := by decide +kernel
theorem dksX3_leave_1 : cX3_leave.data.toList.drop 24 = dktX3_leave_1 := dk_seg dksX3_leave_0 24 rfl rfl
theorem dX3_leave_0 : decode cX3_leave 0 = .ok (.aload_n 0, 1) := dk_42 (dk_at dksX3_leave_0 0 rfl rfl)
theorem dX3_leave_1 : decode cX3_leave 1 = .ok (.getfield 26, 3) := dk_180 0 26 (dk_at dksX3_leave_0 1 rfl rfl)
theorem dX3_leave_4 : decode cX3_leave 4 = .ok (.iload_n 1, 1) := dk_27 (dk_at dksX3_leave_0 4 rfl rfl)
theorem dX3_leave_5 : decode cX3_leave 5 = .ok (.invokevirtual 66, 3) := dk_182 0 66 (dk_at dksX3_leave_0 5 rfl rfl)
theorem dX3_leave_8 : decode cX3_leave 8 = .ok (.ifCond .eq 14, 3) := dk_153 0 14 (dk_at dksX3_leave_0 8 rfl rfl)
theorem dX3_leave_11 : decode cX3_leave 11 = .ok (.aload_n 0, 1) := dk_42 (dk_at dksX3_leave_0 11 rfl rfl)
theorem dX3_leave_12 : decode cX3_leave 12 = .ok (.getfield 18, 3) := dk_180 0 18 (dk_at dksX3_leave_0 12 rfl rfl)
theorem dX3_leave_15 : decode cX3_leave 15 = .ok (.iload_n 1, 1) := dk_27 (dk_at dksX3_leave_0 15 rfl rfl)
theorem dX3_leave_16 : decode cX3_leave 16 = .ok (.iconst 1, 1) := dk_4 (dk_at dksX3_leave_0 16 rfl rfl)
theorem dX3_leave_17 : decode cX3_leave 17 = .ok (.iadd, 1) := dk_96 (dk_at dksX3_leave_0 17 rfl rfl)
theorem dX3_leave_18 : decode cX3_leave 18 = .ok (.iaload, 1) := dk_46 (dk_at dksX3_leave_0 18 rfl rfl)
theorem dX3_leave_19 : decode cX3_leave 19 = .ok (.goto 8, 3) := dk_167 0 8 (dk_at dksX3_leave_0 19 rfl rfl)
theorem dX3_leave_22 : decode cX3_leave 22 = .ok (.aload_n 0, 1) := dk_42 (dk_at dksX3_leave_0 22 rfl rfl)
theorem dX3_leave_23 : decode cX3_leave 23 = .ok (.iload_n 1, 1) := dk_27 (dk_at dksX3_leave_0 23 rfl rfl)
theorem dX3_leave_24 : decode cX3_leave 24 = .ok (.invokevirtual 69, 3) := dk_182 0 69 (dk_at dksX3_leave_1 0 rfl rfl)
theorem dX3_leave_27 : decode cX3_leave 27 = .ok (.ireturn, 1) := dk_172 (dk_at dksX3_leave_1 3 rfl rfl)
abbrev cX3_place : ByteArray := prog_10_method_7_code
def yX3_place : MethodName := ⟨RX3, "place", "(II)V"⟩
def dkwX3_place_2 : List UInt8 := [162, 0, 16, 42, 29, 21, 4, 182, 0, 56, 132, 4, 1, 167, 255, 240, 177]
abbrev dktX3_place_2 : List UInt8 := dkwX3_place_2 ++ []
def dkwX3_place_1 : List UInt8 := [29, 21, 4, 4, 100, 182, 0, 56, 132, 4, 255, 167, 255, 238, 42, 27, 182, 0, 52, 54, 4, 21, 4, 28]
abbrev dktX3_place_1 : List UInt8 := dkwX3_place_1 ++ dktX3_place_2
def dkwX3_place_0 : List UInt8 := [42, 180, 0, 26, 180, 0, 49, 27, 46, 62, 42, 27, 182, 0, 52, 54, 4, 21, 4, 28, 164, 0, 18, 42]
abbrev dktX3_place_0 : List UInt8 := dkwX3_place_0 ++ dktX3_place_1
theorem dksX3_place_0 : cX3_place.data.toList.drop 0 = dktX3_place_0 := by decide +kernel
theorem dksX3_place_1 : cX3_place.data.toList.drop 24 = dktX3_place_1 := dk_seg dksX3_place_0 24 rfl rfl
theorem dksX3_place_2 : cX3_place.data.toList.drop 48 = dktX3_place_2 := dk_seg dksX3_place_1 24 rfl rfl
theorem dX3_place_0 : decode cX3_place 0 = .ok (.aload_n 0, 1) := dk_42 (dk_at dksX3_place_0 0 rfl rfl)
theorem dX3_place_1 : decode cX3_place 1 = .ok (.getfield 26, 3) := dk_180 0 26 (dk_at dksX3_place_0 1 rfl rfl)
theorem dX3_place_4 : decode cX3_place 4 = .ok (.getfield 49, 3) := dk_180 0 49 (dk_at dksX3_place_0 4 rfl rfl)
theorem dX3_place_7 : decode cX3_place 7 = .ok (.iload_n 1, 1) := dk_27 (dk_at dksX3_place_0 7 rfl rfl)
theorem dX3_place_8 : decode cX3_place 8 = .ok (.iaload, 1) := dk_46 (dk_at dksX3_place_0 8 rfl rfl)
theorem dX3_place_9 : decode cX3_place 9 = .ok (.istore_n 3, 1) := dk_62 (dk_at dksX3_place_0 9 rfl rfl)
theorem dX3_place_10 : decode cX3_place 10 = .ok (.aload_n 0, 1) := dk_42 (dk_at dksX3_place_0 10 rfl rfl)
theorem dX3_place_11 : decode cX3_place 11 = .ok (.iload_n 1, 1) := dk_27 (dk_at dksX3_place_0 11 rfl rfl)
theorem dX3_place_12 : decode cX3_place 12 = .ok (.invokevirtual 52, 3) := dk_182 0 52 (dk_at dksX3_place_0 12 rfl rfl)
theorem dX3_place_15 : decode cX3_place 15 = .ok (.istore 4, 2) := dk_54 4 (dk_at dksX3_place_0 15 rfl rfl)
theorem dX3_place_17 : decode cX3_place 17 = .ok (.iload 4, 2) := dk_21 4 (dk_at dksX3_place_0 17 rfl rfl)
theorem dX3_place_19 : decode cX3_place 19 = .ok (.iload_n 2, 1) := dk_28 (dk_at dksX3_place_0 19 rfl rfl)
theorem dX3_place_20 : decode cX3_place 20 = .ok (.if_icmp .le 18, 3) := dk_164 0 18 (dk_at dksX3_place_0 20 rfl rfl)
theorem dX3_place_23 : decode cX3_place 23 = .ok (.aload_n 0, 1) := dk_42 (dk_at dksX3_place_0 23 rfl rfl)
theorem dX3_place_24 : decode cX3_place 24 = .ok (.iload_n 3, 1) := dk_29 (dk_at dksX3_place_1 0 rfl rfl)
theorem dX3_place_25 : decode cX3_place 25 = .ok (.iload 4, 2) := dk_21 4 (dk_at dksX3_place_1 1 rfl rfl)
theorem dX3_place_27 : decode cX3_place 27 = .ok (.iconst 1, 1) := dk_4 (dk_at dksX3_place_1 3 rfl rfl)
theorem dX3_place_28 : decode cX3_place 28 = .ok (.isub, 1) := dk_100 (dk_at dksX3_place_1 4 rfl rfl)
theorem dX3_place_29 : decode cX3_place 29 = .ok (.invokevirtual 56, 3) := dk_182 0 56 (dk_at dksX3_place_1 5 rfl rfl)
theorem dX3_place_32 : decode cX3_place 32 = .ok (.iinc 4 (-1), 3) := dk_132 4 255 (dk_at dksX3_place_1 8 rfl rfl)
theorem dX3_place_35 : decode cX3_place 35 = .ok (.goto (-18), 3) := dk_167 255 238 (dk_at dksX3_place_1 11 rfl rfl)
theorem dX3_place_38 : decode cX3_place 38 = .ok (.aload_n 0, 1) := dk_42 (dk_at dksX3_place_1 14 rfl rfl)
theorem dX3_place_39 : decode cX3_place 39 = .ok (.iload_n 1, 1) := dk_27 (dk_at dksX3_place_1 15 rfl rfl)
theorem dX3_place_40 : decode cX3_place 40 = .ok (.invokevirtual 52, 3) := dk_182 0 52 (dk_at dksX3_place_1 16 rfl rfl)
theorem dX3_place_43 : decode cX3_place 43 = .ok (.istore 4, 2) := dk_54 4 (dk_at dksX3_place_1 19 rfl rfl)
theorem dX3_place_45 : decode cX3_place 45 = .ok (.iload 4, 2) := dk_21 4 (dk_at dksX3_place_1 21 rfl rfl)
theorem dX3_place_47 : decode cX3_place 47 = .ok (.iload_n 2, 1) := dk_28 (dk_at dksX3_place_1 23 rfl rfl)
theorem dX3_place_48 : decode cX3_place 48 = .ok (.if_icmp .ge 16, 3) := dk_162 0 16 (dk_at dksX3_place_2 0 rfl rfl)
theorem dX3_place_51 : decode cX3_place 51 = .ok (.aload_n 0, 1) := dk_42 (dk_at dksX3_place_2 3 rfl rfl)
theorem dX3_place_52 : decode cX3_place 52 = .ok (.iload_n 3, 1) := dk_29 (dk_at dksX3_place_2 4 rfl rfl)
theorem dX3_place_53 : decode cX3_place 53 = .ok (.iload 4, 2) := dk_21 4 (dk_at dksX3_place_2 5 rfl rfl)
theorem dX3_place_55 : decode cX3_place 55 = .ok (.invokevirtual 56, 3) := dk_182 0 56 (dk_at dksX3_place_2 7 rfl rfl)
theorem dX3_place_58 : decode cX3_place 58 = .ok (.iinc 4 1, 3) := dk_132 4 1 (dk_at dksX3_place_2 10 rfl rfl)
theorem dX3_place_61 : decode cX3_place 61 = .ok (.goto (-16), 3) := dk_167 255 240 (dk_at dksX3_place_2 13 rfl rfl)
theorem dX3_place_64 : decode cX3_place 64 = .ok (.return_, 1) := dk_177 (dk_at dksX3_place_2 16 rfl rfl)
theorem q99 : (Jvm.Cond.initialized "BlockingShop$Plan") ∈ lw_all := lw_g (lw_at lw_m1 5 rfl) rfl
theorem q197 : (Jvm.Cond.fieldLinkNest "BlockingShop$Plan" (65 : Nat) "BlockingShop$Graph" "starts" "[I" "BlockingShop") ∈ lw_tbl := lw_at lw_m1 103 rfl
theorem q224 : (Jvm.Cond.instantiable "BlockingShop$Plan" (5 : Nat)) ∈ lw_all := lw_g (lw_at lw_m1 130 rfl) rfl
theorem q333 : (Jvm.Cond.fieldLinkNest "BlockingShop$Plan" (72 : Nat) "BlockingShop$Layout" "jobs" "Ljava/util/List;" "BlockingShop") ∈ lw_tbl := lw_at lw_m1 239 rfl
theorem q336 : (Jvm.Cond.fieldLinkNest "BlockingShop$Plan" (49 : Nat) "BlockingShop$Layout" "machineOf" "[I" "BlockingShop") ∈ lw_tbl := lw_at lw_m2 2 rfl
theorem q340 : (Jvm.Cond.fieldLinkNest "BlockingShop$Plan" (101 : Nat) "BlockingShop$Layout" "cost" "LBlockingShop$Node;" "BlockingShop") ∈ lw_tbl := lw_at lw_m2 6 rfl
theorem q359 : (Jvm.Cond.instanceMethod ({ cls := "BlockingShop$Plan", name := "<init>", desc := "(LBlockingShop$Layout;)V" } : Jvm.MethodName)) ∈ lw_all := lw_g (lw_at lw_m2 25 rfl) rfl
theorem q360 : (Jvm.Cond.code ({ cls := "BlockingShop$Plan", name := "<init>", desc := "(LBlockingShop$Layout;)V" } : Jvm.MethodName) prog_10_method_1_code (2 : Nat) (Option.none : Option Jvm.ClassFile.FieldType)) ∈ lw_all := lw_g (lw_at lw_m2 26 rfl) rfl
theorem q361 : (Jvm.Cond.methodLink "BlockingShop$Plan" (3 : Nat) ({ cls := "java/lang/Object", name := "<init>", desc := "()V" } : Jvm.MethodName)) ∈ lw_all := lw_g (lw_at lw_m2 27 rfl) rfl
theorem q362 : (Jvm.Cond.classLink "BlockingShop$Plan" (21 : Nat) "[[I") ∈ lw_all := lw_g (lw_at lw_m2 28 rfl) rfl
theorem q364 : (Jvm.Cond.fieldLink "BlockingShop$Plan" (26 : Nat) "BlockingShop$Plan" "layout" "LBlockingShop$Layout;") ∈ lw_all := lw_g (lw_at lw_m2 30 rfl) rfl
theorem q367 : (Jvm.Cond.fieldLink "BlockingShop$Plan" (9 : Nat) "BlockingShop$Plan" "durations" "[I") ∈ lw_all := lw_g (lw_at lw_m2 33 rfl) rfl
theorem q371 : (Jvm.Cond.fieldLink "BlockingShop$Plan" (15 : Nat) "BlockingShop$Plan" "counts" "[I") ∈ lw_all := lw_g (lw_at lw_m2 37 rfl) rfl
theorem q374 : (Jvm.Cond.fieldLink "BlockingShop$Plan" (18 : Nat) "BlockingShop$Plan" "starts" "[I") ∈ lw_all := lw_g (lw_at lw_m2 40 rfl) rfl
theorem q376 : (Jvm.Cond.fieldLink "BlockingShop$Plan" (23 : Nat) "BlockingShop$Plan" "orders" "[[I") ∈ lw_all := lw_g (lw_at lw_m2 42 rfl) rfl
theorem q379 : (Jvm.Cond.laysFinal "BlockingShop$Plan" "BlockingShop$Plan" "layout" "LBlockingShop$Layout;") ∈ lw_all := lw_g (lw_at lw_m2 45 rfl) rfl
theorem q380 : (Jvm.Cond.soleField "BlockingShop$Plan" "layout") ∈ lw_all := lw_g (lw_at lw_m2 46 rfl) rfl
theorem q381 : (Jvm.Cond.laysFinal "BlockingShop$Plan" "BlockingShop$Plan" "durations" "[I") ∈ lw_all := lw_g (lw_at lw_m2 47 rfl) rfl
theorem q382 : (Jvm.Cond.soleField "BlockingShop$Plan" "durations") ∈ lw_all := lw_g (lw_at lw_m2 48 rfl) rfl
theorem q383 : (Jvm.Cond.laysFinal "BlockingShop$Plan" "BlockingShop$Plan" "counts" "[I") ∈ lw_all := lw_g (lw_at lw_m2 49 rfl) rfl
theorem q384 : (Jvm.Cond.soleField "BlockingShop$Plan" "counts") ∈ lw_all := lw_g (lw_at lw_m2 50 rfl) rfl
theorem q385 : (Jvm.Cond.laysFinal "BlockingShop$Plan" "BlockingShop$Plan" "starts" "[I") ∈ lw_all := lw_g (lw_at lw_m2 51 rfl) rfl
theorem q386 : (Jvm.Cond.soleField "BlockingShop$Plan" "starts") ∈ lw_all := lw_g (lw_at lw_m2 52 rfl) rfl
theorem q387 : (Jvm.Cond.laysFinal "BlockingShop$Plan" "BlockingShop$Plan" "orders" "[[I") ∈ lw_all := lw_g (lw_at lw_m2 53 rfl) rfl
theorem q388 : (Jvm.Cond.soleField "BlockingShop$Plan" "orders") ∈ lw_all := lw_g (lw_at lw_m2 54 rfl) rfl
theorem q389 : (Jvm.Cond.superclass "BlockingShop$Plan" "java/lang/Object") ∈ lw_all := lw_g (lw_at lw_m2 55 rfl) rfl
theorem q465 : (Jvm.Cond.instanceMethod ({ cls := "BlockingShop$Plan", name := "makespan", desc := "()I" } : Jvm.MethodName)) ∈ lw_all := lw_g (lw_at lw_m2 131 rfl) rfl
theorem q466 : (Jvm.Cond.selects "BlockingShop$Plan" ({ cls := "BlockingShop$Plan", name := "makespan", desc := "()I" } : Jvm.MethodName) ({ cls := "BlockingShop$Plan", name := "makespan", desc := "()I" } : Jvm.MethodName)) ∈ lw_all := lw_g (lw_at lw_m2 132 rfl) rfl
theorem q467 : (Jvm.Cond.code ({ cls := "BlockingShop$Plan", name := "makespan", desc := "()I" } : Jvm.MethodName) prog_10_method_12_code (3 : Nat) (Option.some Jvm.ClassFile.FieldType.int)) ∈ lw_all := lw_g (lw_at lw_m2 133 rfl) rfl
theorem q468 : (Jvm.Cond.interfaceEntry "BlockingShop$Plan" (88 : Nat)) ∈ lw_tbl := lw_at lw_m2 134 rfl
theorem q469 : (Jvm.Cond.methodLink "BlockingShop$Plan" (88 : Nat) ({ cls := "java/util/List", name := "size", desc := "()I" } : Jvm.MethodName)) ∈ lw_all := lw_g (lw_at lw_m2 135 rfl) rfl
theorem q470 : (Jvm.Cond.methodLink "BlockingShop$Plan" (92 : Nat) ({ cls := "BlockingShop$Plan", name := "completion", desc := "(I)I" } : Jvm.MethodName)) ∈ lw_all := lw_g (lw_at lw_m2 136 rfl) rfl
theorem q471 : (Jvm.Cond.instanceMethod ({ cls := "BlockingShop$Plan", name := "completion", desc := "(I)I" } : Jvm.MethodName)) ∈ lw_all := lw_g (lw_at lw_m2 137 rfl) rfl
theorem q472 : (Jvm.Cond.selects "BlockingShop$Plan" ({ cls := "BlockingShop$Plan", name := "completion", desc := "(I)I" } : Jvm.MethodName) ({ cls := "BlockingShop$Plan", name := "completion", desc := "(I)I" } : Jvm.MethodName)) ∈ lw_all := lw_g (lw_at lw_m2 138 rfl) rfl
theorem q473 : (Jvm.Cond.code ({ cls := "BlockingShop$Plan", name := "completion", desc := "(I)I" } : Jvm.MethodName) prog_10_method_11_code (2 : Nat) (Option.some Jvm.ClassFile.FieldType.int)) ∈ lw_all := lw_g (lw_at lw_m2 139 rfl) rfl
theorem q474 : (Jvm.Cond.interfaceEntry "BlockingShop$Plan" (76 : Nat)) ∈ lw_tbl := lw_at lw_m2 140 rfl
theorem q475 : (Jvm.Cond.methodLink "BlockingShop$Plan" (76 : Nat) ({ cls := "java/util/List", name := "get", desc := "(I)Ljava/lang/Object;" } : Jvm.MethodName)) ∈ lw_all := lw_g (lw_at lw_m2 141 rfl) rfl
theorem q875 : (Jvm.Cond.classLink "BlockingShop$Plan" (82 : Nat) "BlockingShop$Job") ∈ lw_all := lw_g (lw_at lw_m4 61 rfl) rfl
theorem q876 : (Jvm.Cond.methodLink "BlockingShop$Plan" (69 : Nat) ({ cls := "BlockingShop$Plan", name := "end", desc := "(I)I" } : Jvm.MethodName)) ∈ lw_all := lw_g (lw_at lw_m4 62 rfl) rfl
theorem q877 : (Jvm.Cond.instanceMethod ({ cls := "BlockingShop$Plan", name := "end", desc := "(I)I" } : Jvm.MethodName)) ∈ lw_all := lw_g (lw_at lw_m4 63 rfl) rfl
theorem q878 : (Jvm.Cond.selects "BlockingShop$Plan" ({ cls := "BlockingShop$Plan", name := "end", desc := "(I)I" } : Jvm.MethodName) ({ cls := "BlockingShop$Plan", name := "end", desc := "(I)I" } : Jvm.MethodName)) ∈ lw_all := lw_g (lw_at lw_m4 64 rfl) rfl
theorem q879 : (Jvm.Cond.code ({ cls := "BlockingShop$Plan", name := "end", desc := "(I)I" } : Jvm.MethodName) prog_10_method_9_code (2 : Nat) (Option.some Jvm.ClassFile.FieldType.int)) ∈ lw_all := lw_g (lw_at lw_m4 65 rfl) rfl
theorem q880 : (Jvm.Cond.methodLink "BlockingShop$Plan" (95 : Nat) ({ cls := "java/lang/Math", name := "max", desc := "(II)I" } : Jvm.MethodName)) ∈ lw_all := lw_g (lw_at lw_m4 66 rfl) rfl
theorem q886 : (Jvm.Cond.instanceMethod ({ cls := "BlockingShop$Plan", name := "cost", desc := "()I" } : Jvm.MethodName)) ∈ lw_all := lw_g (lw_at lw_m4 72 rfl) rfl
theorem q887 : (Jvm.Cond.selects "BlockingShop$Plan" ({ cls := "BlockingShop$Plan", name := "cost", desc := "()I" } : Jvm.MethodName) ({ cls := "BlockingShop$Plan", name := "cost", desc := "()I" } : Jvm.MethodName)) ∈ lw_all := lw_g (lw_at lw_m4 73 rfl) rfl
theorem q888 : (Jvm.Cond.code ({ cls := "BlockingShop$Plan", name := "cost", desc := "()I" } : Jvm.MethodName) prog_10_method_14_code (3 : Nat) (Option.some Jvm.ClassFile.FieldType.int)) ∈ lw_all := lw_g (lw_at lw_m4 74 rfl) rfl
theorem q889 : (Jvm.Cond.methodLink "BlockingShop$Plan" (111 : Nat) ({ cls := "BlockingShop$Plan", name := "jobCost", desc := "(I)I" } : Jvm.MethodName)) ∈ lw_all := lw_g (lw_at lw_m4 75 rfl) rfl
theorem q890 : (Jvm.Cond.instanceMethod ({ cls := "BlockingShop$Plan", name := "jobCost", desc := "(I)I" } : Jvm.MethodName)) ∈ lw_all := lw_g (lw_at lw_m4 76 rfl) rfl
theorem q891 : (Jvm.Cond.selects "BlockingShop$Plan" ({ cls := "BlockingShop$Plan", name := "jobCost", desc := "(I)I" } : Jvm.MethodName) ({ cls := "BlockingShop$Plan", name := "jobCost", desc := "(I)I" } : Jvm.MethodName)) ∈ lw_all := lw_g (lw_at lw_m4 77 rfl) rfl
theorem q892 : (Jvm.Cond.code ({ cls := "BlockingShop$Plan", name := "jobCost", desc := "(I)I" } : Jvm.MethodName) prog_10_method_13_code (2 : Nat) (Option.some Jvm.ClassFile.FieldType.int)) ∈ lw_all := lw_g (lw_at lw_m4 78 rfl) rfl
theorem q893 : (Jvm.Cond.methodLink "BlockingShop$Plan" (105 : Nat) ({ cls := "BlockingShop$Node", name := "of", desc := "(LBlockingShop$Job;J)J" } : Jvm.MethodName)) ∈ lw_all := lw_g (lw_at lw_m4 79 rfl) rfl
theorem q991 : (Jvm.Cond.instanceMethod ({ cls := "BlockingShop$Plan", name := "critical", desc := "()Ljava/util/LinkedList;" } : Jvm.MethodName)) ∈ lw_all := lw_g (lw_at lw_m4 177 rfl) rfl
theorem q992 : (Jvm.Cond.selects "BlockingShop$Plan" ({ cls := "BlockingShop$Plan", name := "critical", desc := "()Ljava/util/LinkedList;" } : Jvm.MethodName) ({ cls := "BlockingShop$Plan", name := "critical", desc := "()Ljava/util/LinkedList;" } : Jvm.MethodName)) ∈ lw_all := lw_g (lw_at lw_m4 178 rfl) rfl
theorem q993 : (Jvm.Cond.code ({ cls := "BlockingShop$Plan", name := "critical", desc := "()Ljava/util/LinkedList;" } : Jvm.MethodName) prog_10_method_19_code (3 : Nat) (Option.some (Jvm.ClassFile.FieldType.object "java/util/LinkedList"))) ∈ lw_all := lw_g (lw_at lw_m4 179 rfl) rfl
theorem q994 : (Jvm.Cond.classLink "BlockingShop$Plan" (129 : Nat) "java/util/LinkedList") ∈ lw_all := lw_g (lw_at lw_m4 180 rfl) rfl
theorem q995 : (Jvm.Cond.methodLink "BlockingShop$Plan" (131 : Nat) ({ cls := "java/util/LinkedList", name := "<init>", desc := "()V" } : Jvm.MethodName)) ∈ lw_all := lw_g (lw_at lw_m4 181 rfl) rfl
theorem q1014 : (Jvm.Cond.methodLink "BlockingShop$Plan" (132 : Nat) ({ cls := "BlockingShop$Plan", name := "path", desc := "()Ljava/util/Iterator;" } : Jvm.MethodName)) ∈ lw_all := lw_g (lw_at lw_m4 200 rfl) rfl
theorem q1015 : (Jvm.Cond.instanceMethod ({ cls := "BlockingShop$Plan", name := "path", desc := "()Ljava/util/Iterator;" } : Jvm.MethodName)) ∈ lw_all := lw_g (lw_at lw_m4 201 rfl) rfl
theorem q1016 : (Jvm.Cond.selects "BlockingShop$Plan" ({ cls := "BlockingShop$Plan", name := "path", desc := "()Ljava/util/Iterator;" } : Jvm.MethodName) ({ cls := "BlockingShop$Plan", name := "path", desc := "()Ljava/util/Iterator;" } : Jvm.MethodName)) ∈ lw_all := lw_g (lw_at lw_m4 202 rfl) rfl
theorem q1017 : (Jvm.Cond.code ({ cls := "BlockingShop$Plan", name := "path", desc := "()Ljava/util/Iterator;" } : Jvm.MethodName) prog_10_method_18_code (1 : Nat) (Option.some (Jvm.ClassFile.FieldType.object "java/util/Iterator"))) ∈ lw_all := lw_g (lw_at lw_m4 203 rfl) rfl
theorem q1018 : (Jvm.Cond.classLink "BlockingShop$Plan" (125 : Nat) "BlockingShop$Plan$1") ∈ lw_all := lw_g (lw_at lw_m4 204 rfl) rfl
theorem q1020 : (Jvm.Cond.methodLink "BlockingShop$Plan" (127 : Nat) ({ cls := "BlockingShop$Plan$1", name := "<init>", desc := "(LBlockingShop$Plan;)V" } : Jvm.MethodName)) ∈ lw_all := lw_g (lw_at lw_m4 206 rfl) rfl
theorem q1049 : (Jvm.Cond.privateMethod ({ cls := "BlockingShop$Plan", name := "last", desc := "()I" } : Jvm.MethodName)) ∈ lw_tbl := lw_at lw_m4 235 rfl
theorem q1050 : (Jvm.Cond.instanceMethod ({ cls := "BlockingShop$Plan", name := "last", desc := "()I" } : Jvm.MethodName)) ∈ lw_all := lw_g (lw_at lw_m4 236 rfl) rfl
theorem q1051 : (Jvm.Cond.code ({ cls := "BlockingShop$Plan", name := "last", desc := "()I" } : Jvm.MethodName) prog_10_method_16_code (3 : Nat) (Option.some Jvm.ClassFile.FieldType.int)) ∈ lw_all := lw_g (lw_at lw_m4 237 rfl) rfl
theorem q1062 : (Jvm.Cond.interfaceEntry "BlockingShop$Plan" (136 : Nat)) ∈ lw_tbl := lw_at lw_m5 8 rfl
theorem q1063 : (Jvm.Cond.methodLink "BlockingShop$Plan" (136 : Nat) ({ cls := "java/util/Iterator", name := "hasNext", desc := "()Z" } : Jvm.MethodName)) ∈ lw_all := lw_g (lw_at lw_m5 9 rfl) rfl
theorem q1121 : (Jvm.Cond.interfaceEntry "BlockingShop$Plan" (142 : Nat)) ∈ lw_tbl := lw_at lw_m5 67 rfl
theorem q1122 : (Jvm.Cond.methodLink "BlockingShop$Plan" (142 : Nat) ({ cls := "java/util/Iterator", name := "next", desc := "()Ljava/lang/Object;" } : Jvm.MethodName)) ∈ lw_all := lw_g (lw_at lw_m5 68 rfl) rfl
theorem q1178 : (Jvm.Cond.privateMethod ({ cls := "BlockingShop$Plan", name := "before", desc := "(I)I" } : Jvm.MethodName)) ∈ lw_tbl := lw_at lw_m5 124 rfl
theorem q1179 : (Jvm.Cond.instanceMethod ({ cls := "BlockingShop$Plan", name := "before", desc := "(I)I" } : Jvm.MethodName)) ∈ lw_all := lw_g (lw_at lw_m5 125 rfl) rfl
theorem q1180 : (Jvm.Cond.code ({ cls := "BlockingShop$Plan", name := "before", desc := "(I)I" } : Jvm.MethodName) prog_10_method_17_code (4 : Nat) (Option.some Jvm.ClassFile.FieldType.int)) ∈ lw_all := lw_g (lw_at lw_m5 126 rfl) rfl
theorem q1181 : (Jvm.Cond.methodLink "BlockingShop$Plan" (119 : Nat) ({ cls := "BlockingShop$Layout", name := "isFirst", desc := "(I)Z" } : Jvm.MethodName)) ∈ lw_all := lw_g (lw_at lw_m5 127 rfl) rfl
theorem q1185 : (Jvm.Cond.methodLink "BlockingShop$Plan" (52 : Nat) ({ cls := "BlockingShop$Plan", name := "position", desc := "(I)I" } : Jvm.MethodName)) ∈ lw_all := lw_g (lw_at lw_m5 131 rfl) rfl
theorem q1186 : (Jvm.Cond.instanceMethod ({ cls := "BlockingShop$Plan", name := "position", desc := "(I)I" } : Jvm.MethodName)) ∈ lw_all := lw_g (lw_at lw_m5 132 rfl) rfl
theorem q1187 : (Jvm.Cond.selects "BlockingShop$Plan" ({ cls := "BlockingShop$Plan", name := "position", desc := "(I)I" } : Jvm.MethodName) ({ cls := "BlockingShop$Plan", name := "position", desc := "(I)I" } : Jvm.MethodName)) ∈ lw_all := lw_g (lw_at lw_m5 133 rfl) rfl
theorem q1188 : (Jvm.Cond.code ({ cls := "BlockingShop$Plan", name := "position", desc := "(I)I" } : Jvm.MethodName) prog_10_method_5_code (3 : Nat) (Option.some Jvm.ClassFile.FieldType.int)) ∈ lw_all := lw_g (lw_at lw_m5 134 rfl) rfl
theorem q1189 : (Jvm.Cond.methodLink "BlockingShop$Plan" (66 : Nat) ({ cls := "BlockingShop$Layout", name := "isBlocked", desc := "(I)Z" } : Jvm.MethodName)) ∈ lw_all := lw_g (lw_at lw_m5 135 rfl) rfl
theorem q1489 : (Jvm.Cond.selects "BlockingShop$Plan" ({ cls := "java/lang/Object", name := "getClass", desc := "()Ljava/lang/Class;" } : Jvm.MethodName) ({ cls := "java/lang/Object", name := "getClass", desc := "()Ljava/lang/Class;" } : Jvm.MethodName)) ∈ lw_all := lw_g (lw_at lw_m6 195 rfl) rfl
theorem q1580 : (Jvm.Cond.classLink "BlockingShop$Plan" (146 : Nat) "java/lang/Integer") ∈ lw_all := lw_g (lw_at lw_m7 46 rfl) rfl
theorem q1581 : (Jvm.Cond.methodLink "BlockingShop$Plan" (148 : Nat) ({ cls := "java/util/LinkedList", name := "addLast", desc := "(Ljava/lang/Object;)V" } : Jvm.MethodName)) ∈ lw_all := lw_g (lw_at lw_m7 47 rfl) rfl
theorem q1616 : (Jvm.Cond.instanceMethod ({ cls := "BlockingShop$Plan", name := "blocks", desc := "()Ljava/util/List;" } : Jvm.MethodName)) ∈ lw_all := lw_g (lw_at lw_m7 82 rfl) rfl
theorem q1617 : (Jvm.Cond.selects "BlockingShop$Plan" ({ cls := "BlockingShop$Plan", name := "blocks", desc := "()Ljava/util/List;" } : Jvm.MethodName) ({ cls := "BlockingShop$Plan", name := "blocks", desc := "()Ljava/util/List;" } : Jvm.MethodName)) ∈ lw_all := lw_g (lw_at lw_m7 83 rfl) rfl
theorem q1618 : (Jvm.Cond.code ({ cls := "BlockingShop$Plan", name := "blocks", desc := "()Ljava/util/List;" } : Jvm.MethodName) prog_10_method_20_code (5 : Nat) (Option.some (Jvm.ClassFile.FieldType.object "java/util/List"))) ∈ lw_all := lw_g (lw_at lw_m7 84 rfl) rfl
theorem q1619 : (Jvm.Cond.classLink "BlockingShop$Plan" (152 : Nat) "java/util/ArrayList") ∈ lw_all := lw_g (lw_at lw_m7 85 rfl) rfl
theorem q1620 : (Jvm.Cond.methodLink "BlockingShop$Plan" (154 : Nat) ({ cls := "java/util/ArrayList", name := "<init>", desc := "()V" } : Jvm.MethodName)) ∈ lw_all := lw_g (lw_at lw_m7 86 rfl) rfl
theorem q1621 : (Jvm.Cond.methodLink "BlockingShop$Plan" (155 : Nat) ({ cls := "java/lang/Integer", name := "intValue", desc := "()I" } : Jvm.MethodName)) ∈ lw_all := lw_g (lw_at lw_m7 87 rfl) rfl
theorem q1625 : (Jvm.Cond.methodLink "BlockingShop$Plan" (158 : Nat) ({ cls := "java/lang/Integer", name := "valueOf", desc := "(I)Ljava/lang/Integer;" } : Jvm.MethodName)) ∈ lw_all := lw_g (lw_at lw_m7 91 rfl) rfl
theorem q1626 : (Jvm.Cond.interfaceEntry "BlockingShop$Plan" (162 : Nat)) ∈ lw_tbl := lw_at lw_m7 92 rfl
theorem q1627 : (Jvm.Cond.methodLink "BlockingShop$Plan" (162 : Nat) ({ cls := "java/util/List", name := "set", desc := "(ILjava/lang/Object;)Ljava/lang/Object;" } : Jvm.MethodName)) ∈ lw_all := lw_g (lw_at lw_m7 93 rfl) rfl
theorem q1647 : (Jvm.Cond.interfaceEntry "BlockingShop$Plan" (166 : Nat)) ∈ lw_tbl := lw_at lw_m7 113 rfl
theorem q1648 : (Jvm.Cond.methodLink "BlockingShop$Plan" (166 : Nat) ({ cls := "java/util/List", name := "add", desc := "(Ljava/lang/Object;)Z" } : Jvm.MethodName)) ∈ lw_all := lw_g (lw_at lw_m7 114 rfl) rfl
theorem q1851 : (Jvm.Cond.instanceMethod ({ cls := "BlockingShop$Plan", name := "become", desc := "(LBlockingShop$Plan;)V" } : Jvm.MethodName)) ∈ lw_all := lw_g (lw_at lw_m8 77 rfl) rfl
theorem q1852 : (Jvm.Cond.selects "BlockingShop$Plan" ({ cls := "BlockingShop$Plan", name := "become", desc := "(LBlockingShop$Plan;)V" } : Jvm.MethodName) ({ cls := "BlockingShop$Plan", name := "become", desc := "(LBlockingShop$Plan;)V" } : Jvm.MethodName)) ∈ lw_all := lw_g (lw_at lw_m8 78 rfl) rfl
theorem q1853 : (Jvm.Cond.code ({ cls := "BlockingShop$Plan", name := "become", desc := "(LBlockingShop$Plan;)V" } : Jvm.MethodName) prog_10_method_3_code (3 : Nat) (Option.none : Option Jvm.ClassFile.FieldType)) ∈ lw_all := lw_g (lw_at lw_m8 79 rfl) rfl
theorem q1854 : (Jvm.Cond.methodLink "BlockingShop$Plan" (37 : Nat) ({ cls := "java/lang/System", name := "arraycopy", desc := "(Ljava/lang/Object;ILjava/lang/Object;II)V" } : Jvm.MethodName)) ∈ lw_all := lw_g (lw_at lw_m8 80 rfl) rfl
theorem q1856 : (Jvm.Cond.instanceMethod ({ cls := "BlockingShop$Plan", name := "swap", desc := "(II)V" } : Jvm.MethodName)) ∈ lw_all := lw_g (lw_at lw_m8 82 rfl) rfl
theorem q1857 : (Jvm.Cond.selects "BlockingShop$Plan" ({ cls := "BlockingShop$Plan", name := "swap", desc := "(II)V" } : Jvm.MethodName) ({ cls := "BlockingShop$Plan", name := "swap", desc := "(II)V" } : Jvm.MethodName)) ∈ lw_all := lw_g (lw_at lw_m8 83 rfl) rfl
theorem q1858 : (Jvm.Cond.code ({ cls := "BlockingShop$Plan", name := "swap", desc := "(II)V" } : Jvm.MethodName) prog_10_method_6_code (4 : Nat) (Option.none : Option Jvm.ClassFile.FieldType)) ∈ lw_all := lw_g (lw_at lw_m8 84 rfl) rfl
theorem q1860 : (Jvm.Cond.instanceMethod ({ cls := "BlockingShop$Plan", name := "times", desc := "(LBlockingShop$Graph;)Z" } : Jvm.MethodName)) ∈ lw_all := lw_g (lw_at lw_m8 86 rfl) rfl
theorem q1861 : (Jvm.Cond.selects "BlockingShop$Plan" ({ cls := "BlockingShop$Plan", name := "times", desc := "(LBlockingShop$Graph;)Z" } : Jvm.MethodName) ({ cls := "BlockingShop$Plan", name := "times", desc := "(LBlockingShop$Graph;)Z" } : Jvm.MethodName)) ∈ lw_all := lw_g (lw_at lw_m8 87 rfl) rfl
theorem q1862 : (Jvm.Cond.code ({ cls := "BlockingShop$Plan", name := "times", desc := "(LBlockingShop$Graph;)Z" } : Jvm.MethodName) prog_10_method_8_code (3 : Nat) (Option.some Jvm.ClassFile.FieldType.boolean)) ∈ lw_all := lw_g (lw_at lw_m8 88 rfl) rfl
theorem q1863 : (Jvm.Cond.methodLink "BlockingShop$Plan" (60 : Nat) ({ cls := "BlockingShop$Graph", name := "starts", desc := "(LBlockingShop$Plan;)Z" } : Jvm.MethodName)) ∈ lw_all := lw_g (lw_at lw_m8 89 rfl) rfl
theorem q1893 : (Jvm.Cond.instanceMethod ({ cls := "BlockingShop$Plan", name := "isBetter", desc := "(LBlockingShop$Plan;)Z" } : Jvm.MethodName)) ∈ lw_all := lw_g (lw_at lw_m8 119 rfl) rfl
theorem q1894 : (Jvm.Cond.selects "BlockingShop$Plan" ({ cls := "BlockingShop$Plan", name := "isBetter", desc := "(LBlockingShop$Plan;)Z" } : Jvm.MethodName) ({ cls := "BlockingShop$Plan", name := "isBetter", desc := "(LBlockingShop$Plan;)Z" } : Jvm.MethodName)) ∈ lw_all := lw_g (lw_at lw_m8 120 rfl) rfl
theorem q1895 : (Jvm.Cond.code ({ cls := "BlockingShop$Plan", name := "isBetter", desc := "(LBlockingShop$Plan;)Z" } : Jvm.MethodName) prog_10_method_15_code (2 : Nat) (Option.some Jvm.ClassFile.FieldType.boolean)) ∈ lw_all := lw_g (lw_at lw_m8 121 rfl) rfl
theorem q1896 : (Jvm.Cond.methodLink "BlockingShop$Plan" (114 : Nat) ({ cls := "BlockingShop$Plan", name := "makespan", desc := "()I" } : Jvm.MethodName)) ∈ lw_all := lw_g (lw_at lw_m8 122 rfl) rfl
theorem q1897 : (Jvm.Cond.methodLink "BlockingShop$Plan" (117 : Nat) ({ cls := "BlockingShop$Plan", name := "cost", desc := "()I" } : Jvm.MethodName)) ∈ lw_all := lw_g (lw_at lw_m8 123 rfl) rfl
theorem q1903 : (Jvm.Cond.instanceMethod ({ cls := "BlockingShop$Plan", name := "copy", desc := "()LBlockingShop$Plan;" } : Jvm.MethodName)) ∈ lw_all := lw_g (lw_at lw_m8 129 rfl) rfl
theorem q1904 : (Jvm.Cond.selects "BlockingShop$Plan" ({ cls := "BlockingShop$Plan", name := "copy", desc := "()LBlockingShop$Plan;" } : Jvm.MethodName) ({ cls := "BlockingShop$Plan", name := "copy", desc := "()LBlockingShop$Plan;" } : Jvm.MethodName)) ∈ lw_all := lw_g (lw_at lw_m8 130 rfl) rfl
theorem q1905 : (Jvm.Cond.code ({ cls := "BlockingShop$Plan", name := "copy", desc := "()LBlockingShop$Plan;" } : Jvm.MethodName) prog_10_method_2_code (2 : Nat) (Option.some (Jvm.ClassFile.FieldType.object "BlockingShop$Plan"))) ∈ lw_all := lw_g (lw_at lw_m8 131 rfl) rfl
theorem q1906 : (Jvm.Cond.classLink "BlockingShop$Plan" (10 : Nat) "BlockingShop$Plan") ∈ lw_all := lw_g (lw_at lw_m8 132 rfl) rfl
theorem q1907 : (Jvm.Cond.methodLink "BlockingShop$Plan" (30 : Nat) ({ cls := "BlockingShop$Plan", name := "<init>", desc := "(LBlockingShop$Layout;)V" } : Jvm.MethodName)) ∈ lw_all := lw_g (lw_at lw_m8 133 rfl) rfl
theorem q1908 : (Jvm.Cond.methodLink "BlockingShop$Plan" (33 : Nat) ({ cls := "BlockingShop$Plan", name := "become", desc := "(LBlockingShop$Plan;)V" } : Jvm.MethodName)) ∈ lw_all := lw_g (lw_at lw_m8 134 rfl) rfl
theorem q1910 : (Jvm.Cond.instanceMethod ({ cls := "BlockingShop$Plan", name := "first", desc := "()V" } : Jvm.MethodName)) ∈ lw_all := lw_g (lw_at lw_m8 136 rfl) rfl
theorem q1911 : (Jvm.Cond.selects "BlockingShop$Plan" ({ cls := "BlockingShop$Plan", name := "first", desc := "()V" } : Jvm.MethodName) ({ cls := "BlockingShop$Plan", name := "first", desc := "()V" } : Jvm.MethodName)) ∈ lw_all := lw_g (lw_at lw_m8 137 rfl) rfl
theorem q1912 : (Jvm.Cond.code ({ cls := "BlockingShop$Plan", name := "first", desc := "()V" } : Jvm.MethodName) prog_10_method_4_code (3 : Nat) (Option.none : Option Jvm.ClassFile.FieldType)) ∈ lw_all := lw_g (lw_at lw_m8 138 rfl) rfl
theorem q1913 : (Jvm.Cond.methodLink "BlockingShop$Plan" (43 : Nat) ({ cls := "BlockingShop$Layout", name := "exists", desc := "(I)Z" } : Jvm.MethodName)) ∈ lw_all := lw_g (lw_at lw_m8 139 rfl) rfl
theorem q2169 : (Jvm.Cond.fieldLinkNest "BlockingShop$Plan" (122 : Nat) "BlockingShop$Job" "release" "I" "BlockingShop") ∈ lw_tbl := lw_at lw_m9 155 rfl
theorem q2176 : (Jvm.Cond.fieldLinkNest "BlockingShop$Plan" (84 : Nat) "BlockingShop$Job" "count" "I" "BlockingShop") ∈ lw_tbl := lw_at lw_m9 162 rfl
theorem q2382 : (Jvm.Cond.selects "BlockingShop$Plan" ({ cls := "java/lang/Object", name := "equals", desc := "(Ljava/lang/Object;)Z" } : Jvm.MethodName) ({ cls := "java/lang/Object", name := "equals", desc := "(Ljava/lang/Object;)Z" } : Jvm.MethodName)) ∈ lw_all := lw_g (lw_at lw_m10 128 rfl) rfl
theorem q2561 : (Jvm.Cond.instanceMethod ({ cls := "BlockingShop$Plan", name := "leave", desc := "(I)I" } : Jvm.MethodName)) ∈ lw_all := lw_g (lw_at lw_m11 67 rfl) rfl
theorem q2562 : (Jvm.Cond.selects "BlockingShop$Plan" ({ cls := "BlockingShop$Plan", name := "leave", desc := "(I)I" } : Jvm.MethodName) ({ cls := "BlockingShop$Plan", name := "leave", desc := "(I)I" } : Jvm.MethodName)) ∈ lw_all := lw_g (lw_at lw_m11 68 rfl) rfl
theorem q2563 : (Jvm.Cond.code ({ cls := "BlockingShop$Plan", name := "leave", desc := "(I)I" } : Jvm.MethodName) prog_10_method_10_code (2 : Nat) (Option.some Jvm.ClassFile.FieldType.int)) ∈ lw_all := lw_g (lw_at lw_m11 69 rfl) rfl
theorem q2654 : (Jvm.Cond.instanceMethod ({ cls := "BlockingShop$Plan", name := "place", desc := "(II)V" } : Jvm.MethodName)) ∈ lw_all := lw_g (lw_at lw_m11 160 rfl) rfl
theorem q2655 : (Jvm.Cond.selects "BlockingShop$Plan" ({ cls := "BlockingShop$Plan", name := "place", desc := "(II)V" } : Jvm.MethodName) ({ cls := "BlockingShop$Plan", name := "place", desc := "(II)V" } : Jvm.MethodName)) ∈ lw_all := lw_g (lw_at lw_m11 161 rfl) rfl
theorem q2656 : (Jvm.Cond.code ({ cls := "BlockingShop$Plan", name := "place", desc := "(II)V" } : Jvm.MethodName) prog_10_method_7_code (5 : Nat) (Option.none : Option Jvm.ClassFile.FieldType)) ∈ lw_all := lw_g (lw_at lw_m11 162 rfl) rfl
theorem q2657 : (Jvm.Cond.methodLink "BlockingShop$Plan" (56 : Nat) ({ cls := "BlockingShop$Plan", name := "swap", desc := "(II)V" } : Jvm.MethodName)) ∈ lw_all := lw_g (lw_at lw_m11 163 rfl) rfl
theorem q3146 : (Jvm.Cond.castable "BlockingShop$Plan" "java/lang/Object") ∈ lw_tbl := lw_at lw_m13 172 rfl
theorem in_X3 : ∀ w ∈ wsX30, w ∈ lw_all := lw_in wsX30 [379, 381, 383, 385, 387] (by decide +kernel) (by decide +kernel)

/-! BlockingShop$Layout -/
set_option maxRecDepth 100000
def RX4 : String := "BlockingShop$Layout"
def TX4 : u_T := fun k => match k with
  | 0 => ("BlockingShop$Layout", "machines", "I", true)
  | 1 => ("BlockingShop$Layout", "areSwapsAllowed", "Z", true)
  | 2 => ("BlockingShop$Layout", "told", "Ljava/util/TreeMap;", true)
  | 3 => ("BlockingShop$Layout", "jobs", "Ljava/util/List;", true)
  | 4 => ("BlockingShop$Layout", "machineOf", "[I", true)
  | 5 => ("BlockingShop$Layout", "cost", "LBlockingShop$Node;", false)
  | _ => ("BlockingShop$Layout", "usual", "LBlockingShop$Machine;", true)
def tyX4 : Nat → FieldType := fun k => match k with
  | 0 => .int
  | 1 => .boolean
  | 2 => .object "java/util/TreeMap"
  | 3 => .object "java/util/List"
  | 4 => .array .int
  | 5 => .object "BlockingShop$Node"
  | _ => .object "BlockingShop$Machine"
abbrev wsX40 : List Cond := u_ws RX4 TX4 7
theorem nmX4 : ∀ a, a < 7 → ∀ b, b < 7 → a ≠ b → (TX4 a).2.1 ≠ (TX4 b).2.1 := by decide +kernel
theorem tyX4_ok : ∀ k, k < 7 → parseFieldDescriptor (TX4 k).2.2.1 = some (tyX4 k) := by decide +kernel
abbrev cX4_init : ByteArray := prog_4_method_1_code
def yX4_init : MethodName := ⟨RX4, "<init>", "(IZ)V"⟩
def dkwX4_init_2 : List UInt8 := [42, 187, 0, 40, 89, 4, 3, 183, 0, 42, 181, 0, 45, 42, 27, 181, 0, 49, 42, 28, 181, 0, 53, 177]
abbrev dktX4_init_2 : List UInt8 := dkwX4_init_2 ++ []
def dkwX4_init_1 : List UInt8 := [181, 0, 21, 42, 16, 36, 188, 10, 181, 0, 25, 42, 187, 0, 29, 89, 18, 31, 183, 0, 33, 181, 0, 36]
abbrev dktX4_init_1 : List UInt8 := dkwX4_init_1 ++ dktX4_init_2
def dkwX4_init_0 : List UInt8 := [42, 183, 0, 3, 42, 187, 0, 9, 89, 183, 0, 11, 181, 0, 12, 42, 187, 0, 18, 89, 183, 0, 20]
abbrev dktX4_init_0 : List UInt8 := dkwX4_init_0 ++ dktX4_init_1
theorem dksX4_init_0 : cX4_init.data.toList.drop 0 = dktX4_init_0 := by decide +kernel
theorem dksX4_init_1 : cX4_init.data.toList.drop 23 = dktX4_init_1 := dk_seg dksX4_init_0 23 rfl rfl
theorem dksX4_init_2 : cX4_init.data.toList.drop 47 = dktX4_init_2 := dk_seg dksX4_init_1 24 rfl rfl
theorem dX4_init_0 : decode cX4_init 0 = .ok (.aload_n 0, 1) := dk_42 (dk_at dksX4_init_0 0 rfl rfl)
theorem dX4_init_1 : decode cX4_init 1 = .ok (.invokespecial 3, 3) := dk_183 0 3 (dk_at dksX4_init_0 1 rfl rfl)
theorem dX4_init_4 : decode cX4_init 4 = .ok (.aload_n 0, 1) := dk_42 (dk_at dksX4_init_0 4 rfl rfl)
theorem dX4_init_5 : decode cX4_init 5 = .ok (.new 9, 3) := dk_187 0 9 (dk_at dksX4_init_0 5 rfl rfl)
theorem dX4_init_8 : decode cX4_init 8 = .ok (.dup, 1) := dk_89 (dk_at dksX4_init_0 8 rfl rfl)
theorem dX4_init_9 : decode cX4_init 9 = .ok (.invokespecial 11, 3) := dk_183 0 11 (dk_at dksX4_init_0 9 rfl rfl)
theorem dX4_init_12 : decode cX4_init 12 = .ok (.putfield 12, 3) := dk_181 0 12 (dk_at dksX4_init_0 12 rfl rfl)
theorem dX4_init_15 : decode cX4_init 15 = .ok (.aload_n 0, 1) := dk_42 (dk_at dksX4_init_0 15 rfl rfl)
theorem dX4_init_16 : decode cX4_init 16 = .ok (.new 18, 3) := dk_187 0 18 (dk_at dksX4_init_0 16 rfl rfl)
theorem dX4_init_19 : decode cX4_init 19 = .ok (.dup, 1) := dk_89 (dk_at dksX4_init_0 19 rfl rfl)
theorem dX4_init_20 : decode cX4_init 20 = .ok (.invokespecial 20, 3) := dk_183 0 20 (dk_at dksX4_init_0 20 rfl rfl)
theorem dX4_init_23 : decode cX4_init 23 = .ok (.putfield 21, 3) := dk_181 0 21 (dk_at dksX4_init_1 0 rfl rfl)
theorem dX4_init_26 : decode cX4_init 26 = .ok (.aload_n 0, 1) := dk_42 (dk_at dksX4_init_1 3 rfl rfl)
theorem dX4_init_27 : decode cX4_init 27 = .ok (.bipush 36, 2) := dk_16 36 (dk_at dksX4_init_1 4 rfl rfl)
theorem dX4_init_29 : decode cX4_init 29 = .ok (.newarray .int, 2) := dk_188_10 (dk_at dksX4_init_1 6 rfl rfl)
theorem dX4_init_31 : decode cX4_init 31 = .ok (.putfield 25, 3) := dk_181 0 25 (dk_at dksX4_init_1 8 rfl rfl)
theorem dX4_init_34 : decode cX4_init 34 = .ok (.aload_n 0, 1) := dk_42 (dk_at dksX4_init_1 11 rfl rfl)
theorem dX4_init_35 : decode cX4_init 35 = .ok (.new 29, 3) := dk_187 0 29 (dk_at dksX4_init_1 12 rfl rfl)
theorem dX4_init_38 : decode cX4_init 38 = .ok (.dup, 1) := dk_89 (dk_at dksX4_init_1 15 rfl rfl)
theorem dX4_init_39 : decode cX4_init 39 = .ok (.ldc 31, 2) := dk_18 31 (dk_at dksX4_init_1 16 rfl rfl)
theorem dX4_init_41 : decode cX4_init 41 = .ok (.invokespecial 33, 3) := dk_183 0 33 (dk_at dksX4_init_1 18 rfl rfl)
theorem dX4_init_44 : decode cX4_init 44 = .ok (.putfield 36, 3) := dk_181 0 36 (dk_at dksX4_init_1 21 rfl rfl)
theorem dX4_init_47 : decode cX4_init 47 = .ok (.aload_n 0, 1) := dk_42 (dk_at dksX4_init_2 0 rfl rfl)
theorem dX4_init_48 : decode cX4_init 48 = .ok (.new 40, 3) := dk_187 0 40 (dk_at dksX4_init_2 1 rfl rfl)
theorem dX4_init_51 : decode cX4_init 51 = .ok (.dup, 1) := dk_89 (dk_at dksX4_init_2 4 rfl rfl)
theorem dX4_init_52 : decode cX4_init 52 = .ok (.iconst 1, 1) := dk_4 (dk_at dksX4_init_2 5 rfl rfl)
theorem dX4_init_53 : decode cX4_init 53 = .ok (.iconst 0, 1) := dk_3 (dk_at dksX4_init_2 6 rfl rfl)
theorem dX4_init_54 : decode cX4_init 54 = .ok (.invokespecial 42, 3) := dk_183 0 42 (dk_at dksX4_init_2 7 rfl rfl)
theorem dX4_init_57 : decode cX4_init 57 = .ok (.putfield 45, 3) := dk_181 0 45 (dk_at dksX4_init_2 10 rfl rfl)
theorem dX4_init_60 : decode cX4_init 60 = .ok (.aload_n 0, 1) := dk_42 (dk_at dksX4_init_2 13 rfl rfl)
theorem dX4_init_61 : decode cX4_init 61 = .ok (.iload_n 1, 1) := dk_27 (dk_at dksX4_init_2 14 rfl rfl)
theorem dX4_init_62 : decode cX4_init 62 = .ok (.putfield 49, 3) := dk_181 0 49 (dk_at dksX4_init_2 15 rfl rfl)
theorem dX4_init_65 : decode cX4_init 65 = .ok (.aload_n 0, 1) := dk_42 (dk_at dksX4_init_2 18 rfl rfl)
theorem dX4_init_66 : decode cX4_init 66 = .ok (.iload_n 2, 1) := dk_28 (dk_at dksX4_init_2 19 rfl rfl)
theorem dX4_init_67 : decode cX4_init 67 = .ok (.putfield 53, 3) := dk_181 0 53 (dk_at dksX4_init_2 20 rfl rfl)
theorem dX4_init_70 : decode cX4_init 70 = .ok (.return_, 1) := dk_177 (dk_at dksX4_init_2 23 rfl rfl)
abbrev cX4_isFirst : ByteArray := prog_4_method_4_code
def yX4_isFirst : MethodName := ⟨RX4, "isFirst", "(I)Z"⟩
def dkwX4_isFirst_0 : List UInt8 := [27, 16, 6, 112, 154, 0, 7, 4, 167, 0, 4, 3, 172]
abbrev dktX4_isFirst_0 : List UInt8 := dkwX4_isFirst_0 ++ []
theorem dksX4_isFirst_0 : cX4_isFirst.data.toList.drop 0 = dktX4_isFirst_0 := by decide +kernel
theorem dX4_isFirst_0 : decode cX4_isFirst 0 = .ok (.iload_n 1, 1) := dk_27 (dk_at dksX4_isFirst_0 0 rfl rfl)
theorem dX4_isFirst_1 : decode cX4_isFirst 1 = .ok (.bipush 6, 2) := dk_16 6 (dk_at dksX4_isFirst_0 1 rfl rfl)
theorem dX4_isFirst_3 : decode cX4_isFirst 3 = .ok (.irem, 1) := dk_112 (dk_at dksX4_isFirst_0 3 rfl rfl)
theorem dX4_isFirst_4 : decode cX4_isFirst 4 = .ok (.ifCond .ne 7, 3) := dk_154 0 7 (dk_at dksX4_isFirst_0 4 rfl rfl)
theorem dX4_isFirst_7 : decode cX4_isFirst 7 = .ok (.iconst 1, 1) := dk_4 (dk_at dksX4_isFirst_0 7 rfl rfl)
theorem dX4_isFirst_8 : decode cX4_isFirst 8 = .ok (.goto 4, 3) := dk_167 0 4 (dk_at dksX4_isFirst_0 8 rfl rfl)
theorem dX4_isFirst_11 : decode cX4_isFirst 11 = .ok (.iconst 0, 1) := dk_3 (dk_at dksX4_isFirst_0 11 rfl rfl)
theorem dX4_isFirst_12 : decode cX4_isFirst 12 = .ok (.ireturn, 1) := dk_172 (dk_at dksX4_isFirst_0 12 rfl rfl)
abbrev cX4_isBlocked : ByteArray := prog_4_method_5_code
def yX4_isBlocked : MethodName := ⟨RX4, "isBlocked", "(I)Z"⟩
def dkwX4_isBlocked_1 : List UInt8 := [4, 167, 0, 4, 3, 172]
abbrev dktX4_isBlocked_1 : List UInt8 := dkwX4_isBlocked_1 ++ []
def dkwX4_isBlocked_0 : List UInt8 := [42, 42, 180, 0, 25, 27, 46, 182, 0, 77, 180, 0, 81, 153, 0, 15, 42, 27, 182, 0, 84, 154, 0, 7]
abbrev dktX4_isBlocked_0 : List UInt8 := dkwX4_isBlocked_0 ++ dktX4_isBlocked_1
theorem dksX4_isBlocked_0 : cX4_isBlocked.data.toList.drop 0 = dktX4_isBlocked_0 := by decide +kernel
theorem dksX4_isBlocked_1 : cX4_isBlocked.data.toList.drop 24 = dktX4_isBlocked_1 := dk_seg dksX4_isBlocked_0 24 rfl rfl
theorem dX4_isBlocked_0 : decode cX4_isBlocked 0 = .ok (.aload_n 0, 1) := dk_42 (dk_at dksX4_isBlocked_0 0 rfl rfl)
theorem dX4_isBlocked_1 : decode cX4_isBlocked 1 = .ok (.aload_n 0, 1) := dk_42 (dk_at dksX4_isBlocked_0 1 rfl rfl)
theorem dX4_isBlocked_2 : decode cX4_isBlocked 2 = .ok (.getfield 25, 3) := dk_180 0 25 (dk_at dksX4_isBlocked_0 2 rfl rfl)
theorem dX4_isBlocked_5 : decode cX4_isBlocked 5 = .ok (.iload_n 1, 1) := dk_27 (dk_at dksX4_isBlocked_0 5 rfl rfl)
theorem dX4_isBlocked_6 : decode cX4_isBlocked 6 = .ok (.iaload, 1) := dk_46 (dk_at dksX4_isBlocked_0 6 rfl rfl)
theorem dX4_isBlocked_7 : decode cX4_isBlocked 7 = .ok (.invokevirtual 77, 3) := dk_182 0 77 (dk_at dksX4_isBlocked_0 7 rfl rfl)
theorem dX4_isBlocked_10 : decode cX4_isBlocked 10 = .ok (.getfield 81, 3) := dk_180 0 81 (dk_at dksX4_isBlocked_0 10 rfl rfl)
theorem dX4_isBlocked_13 : decode cX4_isBlocked 13 = .ok (.ifCond .eq 15, 3) := dk_153 0 15 (dk_at dksX4_isBlocked_0 13 rfl rfl)
theorem dX4_isBlocked_16 : decode cX4_isBlocked 16 = .ok (.aload_n 0, 1) := dk_42 (dk_at dksX4_isBlocked_0 16 rfl rfl)
theorem dX4_isBlocked_17 : decode cX4_isBlocked 17 = .ok (.iload_n 1, 1) := dk_27 (dk_at dksX4_isBlocked_0 17 rfl rfl)
theorem dX4_isBlocked_18 : decode cX4_isBlocked 18 = .ok (.invokevirtual 84, 3) := dk_182 0 84 (dk_at dksX4_isBlocked_0 18 rfl rfl)
theorem dX4_isBlocked_21 : decode cX4_isBlocked 21 = .ok (.ifCond .ne 7, 3) := dk_154 0 7 (dk_at dksX4_isBlocked_0 21 rfl rfl)
theorem dX4_isBlocked_24 : decode cX4_isBlocked 24 = .ok (.iconst 1, 1) := dk_4 (dk_at dksX4_isBlocked_1 0 rfl rfl)
theorem dX4_isBlocked_25 : decode cX4_isBlocked 25 = .ok (.goto 4, 3) := dk_167 0 4 (dk_at dksX4_isBlocked_1 1 rfl rfl)
theorem dX4_isBlocked_28 : decode cX4_isBlocked 28 = .ok (.iconst 0, 1) := dk_3 (dk_at dksX4_isBlocked_1 4 rfl rfl)
theorem dX4_isBlocked_29 : decode cX4_isBlocked 29 = .ok (.ireturn, 1) := dk_172 (dk_at dksX4_isBlocked_1 5 rfl rfl)
abbrev cX4_machine : ByteArray := prog_4_method_2_code
def yX4_machine : MethodName := ⟨RX4, "machine", "(I)LBlockingShop$Machine;"⟩
def dkwX4_machine_1 : List UInt8 := [167, 0, 4, 44, 176]
abbrev dktX4_machine_1 : List UInt8 := dkwX4_machine_1 ++ []
def dkwX4_machine_0 : List UInt8 := [42, 180, 0, 12, 27, 184, 0, 57, 182, 0, 63, 192, 0, 40, 77, 44, 199, 0, 10, 42, 180, 0, 45]
abbrev dktX4_machine_0 : List UInt8 := dkwX4_machine_0 ++ dktX4_machine_1
theorem dksX4_machine_0 : cX4_machine.data.toList.drop 0 = dktX4_machine_0 := by decide +kernel
theorem dksX4_machine_1 : cX4_machine.data.toList.drop 23 = dktX4_machine_1 := dk_seg dksX4_machine_0 23 rfl rfl
theorem dX4_machine_0 : decode cX4_machine 0 = .ok (.aload_n 0, 1) := dk_42 (dk_at dksX4_machine_0 0 rfl rfl)
theorem dX4_machine_1 : decode cX4_machine 1 = .ok (.getfield 12, 3) := dk_180 0 12 (dk_at dksX4_machine_0 1 rfl rfl)
theorem dX4_machine_4 : decode cX4_machine 4 = .ok (.iload_n 1, 1) := dk_27 (dk_at dksX4_machine_0 4 rfl rfl)
theorem dX4_machine_5 : decode cX4_machine 5 = .ok (.invokestatic 57, 3) := dk_184 0 57 (dk_at dksX4_machine_0 5 rfl rfl)
theorem dX4_machine_8 : decode cX4_machine 8 = .ok (.invokevirtual 63, 3) := dk_182 0 63 (dk_at dksX4_machine_0 8 rfl rfl)
theorem dX4_machine_11 : decode cX4_machine 11 = .ok (.checkcast 40, 3) := dk_192 0 40 (dk_at dksX4_machine_0 11 rfl rfl)
theorem dX4_machine_14 : decode cX4_machine 14 = .ok (.astore_n 2, 1) := dk_77 (dk_at dksX4_machine_0 14 rfl rfl)
theorem dX4_machine_15 : decode cX4_machine 15 = .ok (.aload_n 2, 1) := dk_44 (dk_at dksX4_machine_0 15 rfl rfl)
theorem dX4_machine_16 : decode cX4_machine 16 = .ok (.ifnonnull 10, 3) := dk_199 0 10 (dk_at dksX4_machine_0 16 rfl rfl)
theorem dX4_machine_19 : decode cX4_machine 19 = .ok (.aload_n 0, 1) := dk_42 (dk_at dksX4_machine_0 19 rfl rfl)
theorem dX4_machine_20 : decode cX4_machine 20 = .ok (.getfield 45, 3) := dk_180 0 45 (dk_at dksX4_machine_0 20 rfl rfl)
theorem dX4_machine_23 : decode cX4_machine 23 = .ok (.goto 4, 3) := dk_167 0 4 (dk_at dksX4_machine_1 0 rfl rfl)
theorem dX4_machine_26 : decode cX4_machine 26 = .ok (.aload_n 2, 1) := dk_44 (dk_at dksX4_machine_1 3 rfl rfl)
theorem dX4_machine_27 : decode cX4_machine 27 = .ok (.areturn, 1) := dk_176 (dk_at dksX4_machine_1 4 rfl rfl)
abbrev cX4_isLast : ByteArray := prog_4_method_3_code
def yX4_isLast : MethodName := ⟨RX4, "isLast", "(I)Z"⟩
def dkwX4_isLast_1 : List UInt8 := [100, 160, 0, 7, 4, 167, 0, 4, 3, 172]
abbrev dktX4_isLast_1 : List UInt8 := dkwX4_isLast_1 ++ []
def dkwX4_isLast_0 : List UInt8 := [27, 16, 6, 112, 42, 180, 0, 21, 27, 16, 6, 108, 185, 0, 67, 2, 0, 192, 0, 72, 180, 0, 74, 4]
abbrev dktX4_isLast_0 : List UInt8 := dkwX4_isLast_0 ++ dktX4_isLast_1
theorem dksX4_isLast_0 : cX4_isLast.data.toList.drop 0 = dktX4_isLast_0 := by decide +kernel
theorem dksX4_isLast_1 : cX4_isLast.data.toList.drop 24 = dktX4_isLast_1 := dk_seg dksX4_isLast_0 24 rfl rfl
theorem dX4_isLast_0 : decode cX4_isLast 0 = .ok (.iload_n 1, 1) := dk_27 (dk_at dksX4_isLast_0 0 rfl rfl)
theorem dX4_isLast_1 : decode cX4_isLast 1 = .ok (.bipush 6, 2) := dk_16 6 (dk_at dksX4_isLast_0 1 rfl rfl)
theorem dX4_isLast_3 : decode cX4_isLast 3 = .ok (.irem, 1) := dk_112 (dk_at dksX4_isLast_0 3 rfl rfl)
theorem dX4_isLast_4 : decode cX4_isLast 4 = .ok (.aload_n 0, 1) := dk_42 (dk_at dksX4_isLast_0 4 rfl rfl)
theorem dX4_isLast_5 : decode cX4_isLast 5 = .ok (.getfield 21, 3) := dk_180 0 21 (dk_at dksX4_isLast_0 5 rfl rfl)
theorem dX4_isLast_8 : decode cX4_isLast 8 = .ok (.iload_n 1, 1) := dk_27 (dk_at dksX4_isLast_0 8 rfl rfl)
theorem dX4_isLast_9 : decode cX4_isLast 9 = .ok (.bipush 6, 2) := dk_16 6 (dk_at dksX4_isLast_0 9 rfl rfl)
theorem dX4_isLast_11 : decode cX4_isLast 11 = .ok (.idiv, 1) := dk_108 (dk_at dksX4_isLast_0 11 rfl rfl)
theorem dX4_isLast_12 : decode cX4_isLast 12 = .ok (.invokeinterface 67 2, 5) := by decide +kernel
theorem dX4_isLast_17 : decode cX4_isLast 17 = .ok (.checkcast 72, 3) := dk_192 0 72 (dk_at dksX4_isLast_0 17 rfl rfl)
theorem dX4_isLast_20 : decode cX4_isLast 20 = .ok (.getfield 74, 3) := dk_180 0 74 (dk_at dksX4_isLast_0 20 rfl rfl)
theorem dX4_isLast_23 : decode cX4_isLast 23 = .ok (.iconst 1, 1) := dk_4 (dk_at dksX4_isLast_0 23 rfl rfl)
theorem dX4_isLast_24 : decode cX4_isLast 24 = .ok (.isub, 1) := dk_100 (dk_at dksX4_isLast_1 0 rfl rfl)
theorem dX4_isLast_25 : decode cX4_isLast 25 = .ok (.if_icmp .ne 7, 3) := dk_160 0 7 (dk_at dksX4_isLast_1 1 rfl rfl)
theorem dX4_isLast_28 : decode cX4_isLast 28 = .ok (.iconst 1, 1) := dk_4 (dk_at dksX4_isLast_1 4 rfl rfl)
theorem dX4_isLast_29 : decode cX4_isLast 29 = .ok (.goto 4, 3) := dk_167 0 4 (dk_at dksX4_isLast_1 5 rfl rfl)
theorem dX4_isLast_32 : decode cX4_isLast 32 = .ok (.iconst 0, 1) := dk_3 (dk_at dksX4_isLast_1 8 rfl rfl)
theorem dX4_isLast_33 : decode cX4_isLast 33 = .ok (.ireturn, 1) := dk_172 (dk_at dksX4_isLast_1 9 rfl rfl)
abbrev cX4_exists : ByteArray := prog_4_method_6_code
def yX4_exists : MethodName := ⟨RX4, "exists", "(I)Z"⟩
def dkwX4_exists_1 : List UInt8 := [27, 16, 6, 108, 185, 0, 67, 2, 0, 192, 0, 72, 180, 0, 74, 162, 0, 7, 4, 167, 0, 4, 3, 172]
abbrev dktX4_exists_1 : List UInt8 := dkwX4_exists_1 ++ []
def dkwX4_exists_0 : List UInt8 := [27, 16, 6, 108, 42, 180, 0, 21, 185, 0, 88, 1, 0, 162, 0, 33, 27, 16, 6, 112, 42, 180, 0, 21]
abbrev dktX4_exists_0 : List UInt8 := dkwX4_exists_0 ++ dktX4_exists_1
theorem dksX4_exists_0 : cX4_exists.data.toList.drop 0 = dktX4_exists_0 := by decide +kernel
theorem dksX4_exists_1 : cX4_exists.data.toList.drop 24 = dktX4_exists_1 := dk_seg dksX4_exists_0 24 rfl rfl
theorem dX4_exists_0 : decode cX4_exists 0 = .ok (.iload_n 1, 1) := dk_27 (dk_at dksX4_exists_0 0 rfl rfl)
theorem dX4_exists_1 : decode cX4_exists 1 = .ok (.bipush 6, 2) := dk_16 6 (dk_at dksX4_exists_0 1 rfl rfl)
theorem dX4_exists_3 : decode cX4_exists 3 = .ok (.idiv, 1) := dk_108 (dk_at dksX4_exists_0 3 rfl rfl)
theorem dX4_exists_4 : decode cX4_exists 4 = .ok (.aload_n 0, 1) := dk_42 (dk_at dksX4_exists_0 4 rfl rfl)
theorem dX4_exists_5 : decode cX4_exists 5 = .ok (.getfield 21, 3) := dk_180 0 21 (dk_at dksX4_exists_0 5 rfl rfl)
theorem dX4_exists_8 : decode cX4_exists 8 = .ok (.invokeinterface 88 1, 5) := by decide +kernel
theorem dX4_exists_13 : decode cX4_exists 13 = .ok (.if_icmp .ge 33, 3) := dk_162 0 33 (dk_at dksX4_exists_0 13 rfl rfl)
theorem dX4_exists_16 : decode cX4_exists 16 = .ok (.iload_n 1, 1) := dk_27 (dk_at dksX4_exists_0 16 rfl rfl)
theorem dX4_exists_17 : decode cX4_exists 17 = .ok (.bipush 6, 2) := dk_16 6 (dk_at dksX4_exists_0 17 rfl rfl)
theorem dX4_exists_19 : decode cX4_exists 19 = .ok (.irem, 1) := dk_112 (dk_at dksX4_exists_0 19 rfl rfl)
theorem dX4_exists_20 : decode cX4_exists 20 = .ok (.aload_n 0, 1) := dk_42 (dk_at dksX4_exists_0 20 rfl rfl)
theorem dX4_exists_21 : decode cX4_exists 21 = .ok (.getfield 21, 3) := dk_180 0 21 (dk_at dksX4_exists_0 21 rfl rfl)
theorem dX4_exists_24 : decode cX4_exists 24 = .ok (.iload_n 1, 1) := dk_27 (dk_at dksX4_exists_1 0 rfl rfl)
theorem dX4_exists_25 : decode cX4_exists 25 = .ok (.bipush 6, 2) := dk_16 6 (dk_at dksX4_exists_1 1 rfl rfl)
theorem dX4_exists_27 : decode cX4_exists 27 = .ok (.idiv, 1) := dk_108 (dk_at dksX4_exists_1 3 rfl rfl)
theorem dX4_exists_28 : decode cX4_exists 28 = .ok (.invokeinterface 67 2, 5) := by decide +kernel
theorem dX4_exists_33 : decode cX4_exists 33 = .ok (.checkcast 72, 3) := dk_192 0 72 (dk_at dksX4_exists_1 9 rfl rfl)
theorem dX4_exists_36 : decode cX4_exists 36 = .ok (.getfield 74, 3) := dk_180 0 74 (dk_at dksX4_exists_1 12 rfl rfl)
theorem dX4_exists_39 : decode cX4_exists 39 = .ok (.if_icmp .ge 7, 3) := dk_162 0 7 (dk_at dksX4_exists_1 15 rfl rfl)
theorem dX4_exists_42 : decode cX4_exists 42 = .ok (.iconst 1, 1) := dk_4 (dk_at dksX4_exists_1 18 rfl rfl)
theorem dX4_exists_43 : decode cX4_exists 43 = .ok (.goto 4, 3) := dk_167 0 4 (dk_at dksX4_exists_1 19 rfl rfl)
theorem dX4_exists_46 : decode cX4_exists 46 = .ok (.iconst 0, 1) := dk_3 (dk_at dksX4_exists_1 22 rfl rfl)
theorem dX4_exists_47 : decode cX4_exists 47 = .ok (.ireturn, 1) := dk_172 (dk_at dksX4_exists_1 23 rfl rfl)
theorem q100 : (Jvm.Cond.initialized "BlockingShop$Layout") ∈ lw_all := lw_g (lw_at lw_m1 6 rfl) rfl
theorem q226 : (Jvm.Cond.instantiable "BlockingShop$Layout" (7 : Nat)) ∈ lw_all := lw_g (lw_at lw_m1 132 rfl) rfl
theorem q228 : (Jvm.Cond.instanceMethod ({ cls := "BlockingShop$Layout", name := "<init>", desc := "(IZ)V" } : Jvm.MethodName)) ∈ lw_all := lw_g (lw_at lw_m1 134 rfl) rfl
theorem q229 : (Jvm.Cond.code ({ cls := "BlockingShop$Layout", name := "<init>", desc := "(IZ)V" } : Jvm.MethodName) prog_4_method_1_code (3 : Nat) (Option.none : Option Jvm.ClassFile.FieldType)) ∈ lw_all := lw_g (lw_at lw_m1 135 rfl) rfl
theorem q230 : (Jvm.Cond.methodLink "BlockingShop$Layout" (3 : Nat) ({ cls := "java/lang/Object", name := "<init>", desc := "()V" } : Jvm.MethodName)) ∈ lw_all := lw_g (lw_at lw_m1 136 rfl) rfl
theorem q231 : (Jvm.Cond.classLink "BlockingShop$Layout" (9 : Nat) "java/util/TreeMap") ∈ lw_all := lw_g (lw_at lw_m1 137 rfl) rfl
theorem q233 : (Jvm.Cond.methodLink "BlockingShop$Layout" (11 : Nat) ({ cls := "java/util/TreeMap", name := "<init>", desc := "()V" } : Jvm.MethodName)) ∈ lw_all := lw_g (lw_at lw_m1 139 rfl) rfl
theorem q263 : (Jvm.Cond.classLink "BlockingShop$Layout" (18 : Nat) "java/util/ArrayList") ∈ lw_all := lw_g (lw_at lw_m1 169 rfl) rfl
theorem q265 : (Jvm.Cond.methodLink "BlockingShop$Layout" (20 : Nat) ({ cls := "java/util/ArrayList", name := "<init>", desc := "()V" } : Jvm.MethodName)) ∈ lw_all := lw_g (lw_at lw_m1 171 rfl) rfl
theorem q293 : (Jvm.Cond.classLink "BlockingShop$Layout" (29 : Nat) "BlockingShop$Variable") ∈ lw_all := lw_g (lw_at lw_m1 199 rfl) rfl
theorem q295 : (Jvm.Cond.stringRef "BlockingShop$Layout" (31 : Nat) "completion") ∈ lw_tbl := lw_at lw_m1 201 rfl
theorem q296 : (Jvm.Cond.methodLink "BlockingShop$Layout" (33 : Nat) ({ cls := "BlockingShop$Variable", name := "<init>", desc := "(Ljava/lang/String;)V" } : Jvm.MethodName)) ∈ lw_all := lw_g (lw_at lw_m1 202 rfl) rfl
theorem q307 : (Jvm.Cond.classLink "BlockingShop$Layout" (40 : Nat) "BlockingShop$Machine") ∈ lw_all := lw_g (lw_at lw_m1 213 rfl) rfl
theorem q309 : (Jvm.Cond.methodLink "BlockingShop$Layout" (42 : Nat) ({ cls := "BlockingShop$Machine", name := "<init>", desc := "(ZI)V" } : Jvm.MethodName)) ∈ lw_all := lw_g (lw_at lw_m1 215 rfl) rfl
theorem q314 : (Jvm.Cond.fieldLinkNest "BlockingShop$Layout" (81 : Nat) "BlockingShop$Machine" "isBlocking" "Z" "BlockingShop") ∈ lw_tbl := lw_at lw_m1 220 rfl
theorem q322 : (Jvm.Cond.fieldLink "BlockingShop$Layout" (49 : Nat) "BlockingShop$Layout" "machines" "I") ∈ lw_all := lw_g (lw_at lw_m1 228 rfl) rfl
theorem q326 : (Jvm.Cond.fieldLink "BlockingShop$Layout" (53 : Nat) "BlockingShop$Layout" "areSwapsAllowed" "Z") ∈ lw_all := lw_g (lw_at lw_m1 232 rfl) rfl
theorem q328 : (Jvm.Cond.fieldLink "BlockingShop$Layout" (12 : Nat) "BlockingShop$Layout" "told" "Ljava/util/TreeMap;") ∈ lw_all := lw_g (lw_at lw_m1 234 rfl) rfl
theorem q330 : (Jvm.Cond.fieldLink "BlockingShop$Layout" (21 : Nat) "BlockingShop$Layout" "jobs" "Ljava/util/List;") ∈ lw_all := lw_g (lw_at lw_m1 236 rfl) rfl
theorem q335 : (Jvm.Cond.fieldLink "BlockingShop$Layout" (25 : Nat) "BlockingShop$Layout" "machineOf" "[I") ∈ lw_all := lw_g (lw_at lw_m2 1 rfl) rfl
theorem q339 : (Jvm.Cond.fieldLink "BlockingShop$Layout" (36 : Nat) "BlockingShop$Layout" "cost" "LBlockingShop$Node;") ∈ lw_all := lw_g (lw_at lw_m2 5 rfl) rfl
theorem q342 : (Jvm.Cond.fieldLink "BlockingShop$Layout" (45 : Nat) "BlockingShop$Layout" "usual" "LBlockingShop$Machine;") ∈ lw_all := lw_g (lw_at lw_m2 8 rfl) rfl
theorem q343 : (Jvm.Cond.laysFinal "BlockingShop$Layout" "BlockingShop$Layout" "machines" "I") ∈ lw_all := lw_g (lw_at lw_m2 9 rfl) rfl
theorem q344 : (Jvm.Cond.soleField "BlockingShop$Layout" "machines") ∈ lw_all := lw_g (lw_at lw_m2 10 rfl) rfl
theorem q345 : (Jvm.Cond.laysFinal "BlockingShop$Layout" "BlockingShop$Layout" "areSwapsAllowed" "Z") ∈ lw_all := lw_g (lw_at lw_m2 11 rfl) rfl
theorem q346 : (Jvm.Cond.soleField "BlockingShop$Layout" "areSwapsAllowed") ∈ lw_all := lw_g (lw_at lw_m2 12 rfl) rfl
theorem q347 : (Jvm.Cond.laysFinal "BlockingShop$Layout" "BlockingShop$Layout" "told" "Ljava/util/TreeMap;") ∈ lw_all := lw_g (lw_at lw_m2 13 rfl) rfl
theorem q348 : (Jvm.Cond.soleField "BlockingShop$Layout" "told") ∈ lw_all := lw_g (lw_at lw_m2 14 rfl) rfl
theorem q349 : (Jvm.Cond.laysFinal "BlockingShop$Layout" "BlockingShop$Layout" "jobs" "Ljava/util/List;") ∈ lw_all := lw_g (lw_at lw_m2 15 rfl) rfl
theorem q350 : (Jvm.Cond.soleField "BlockingShop$Layout" "jobs") ∈ lw_all := lw_g (lw_at lw_m2 16 rfl) rfl
theorem q351 : (Jvm.Cond.laysFinal "BlockingShop$Layout" "BlockingShop$Layout" "machineOf" "[I") ∈ lw_all := lw_g (lw_at lw_m2 17 rfl) rfl
theorem q352 : (Jvm.Cond.soleField "BlockingShop$Layout" "machineOf") ∈ lw_all := lw_g (lw_at lw_m2 18 rfl) rfl
theorem q353 : (Jvm.Cond.lays "BlockingShop$Layout" "BlockingShop$Layout" "cost" "LBlockingShop$Node;") ∈ lw_all := lw_g (lw_at lw_m2 19 rfl) rfl
theorem q354 : (Jvm.Cond.soleField "BlockingShop$Layout" "cost") ∈ lw_all := lw_g (lw_at lw_m2 20 rfl) rfl
theorem q355 : (Jvm.Cond.laysFinal "BlockingShop$Layout" "BlockingShop$Layout" "usual" "LBlockingShop$Machine;") ∈ lw_all := lw_g (lw_at lw_m2 21 rfl) rfl
theorem q356 : (Jvm.Cond.soleField "BlockingShop$Layout" "usual") ∈ lw_all := lw_g (lw_at lw_m2 22 rfl) rfl
theorem q357 : (Jvm.Cond.superclass "BlockingShop$Layout" "java/lang/Object") ∈ lw_all := lw_g (lw_at lw_m2 23 rfl) rfl
theorem q1182 : (Jvm.Cond.instanceMethod ({ cls := "BlockingShop$Layout", name := "isFirst", desc := "(I)Z" } : Jvm.MethodName)) ∈ lw_all := lw_g (lw_at lw_m5 128 rfl) rfl
theorem q1183 : (Jvm.Cond.selects "BlockingShop$Layout" ({ cls := "BlockingShop$Layout", name := "isFirst", desc := "(I)Z" } : Jvm.MethodName) ({ cls := "BlockingShop$Layout", name := "isFirst", desc := "(I)Z" } : Jvm.MethodName)) ∈ lw_all := lw_g (lw_at lw_m5 129 rfl) rfl
theorem q1184 : (Jvm.Cond.code ({ cls := "BlockingShop$Layout", name := "isFirst", desc := "(I)Z" } : Jvm.MethodName) prog_4_method_4_code (2 : Nat) (Option.some Jvm.ClassFile.FieldType.boolean)) ∈ lw_all := lw_g (lw_at lw_m5 130 rfl) rfl
theorem q1190 : (Jvm.Cond.instanceMethod ({ cls := "BlockingShop$Layout", name := "isBlocked", desc := "(I)Z" } : Jvm.MethodName)) ∈ lw_all := lw_g (lw_at lw_m5 136 rfl) rfl
theorem q1191 : (Jvm.Cond.selects "BlockingShop$Layout" ({ cls := "BlockingShop$Layout", name := "isBlocked", desc := "(I)Z" } : Jvm.MethodName) ({ cls := "BlockingShop$Layout", name := "isBlocked", desc := "(I)Z" } : Jvm.MethodName)) ∈ lw_all := lw_g (lw_at lw_m5 137 rfl) rfl
theorem q1192 : (Jvm.Cond.code ({ cls := "BlockingShop$Layout", name := "isBlocked", desc := "(I)Z" } : Jvm.MethodName) prog_4_method_5_code (2 : Nat) (Option.some Jvm.ClassFile.FieldType.boolean)) ∈ lw_all := lw_g (lw_at lw_m5 138 rfl) rfl
theorem q1193 : (Jvm.Cond.methodLink "BlockingShop$Layout" (77 : Nat) ({ cls := "BlockingShop$Layout", name := "machine", desc := "(I)LBlockingShop$Machine;" } : Jvm.MethodName)) ∈ lw_all := lw_g (lw_at lw_m5 139 rfl) rfl
theorem q1194 : (Jvm.Cond.instanceMethod ({ cls := "BlockingShop$Layout", name := "machine", desc := "(I)LBlockingShop$Machine;" } : Jvm.MethodName)) ∈ lw_all := lw_g (lw_at lw_m5 140 rfl) rfl
theorem q1195 : (Jvm.Cond.selects "BlockingShop$Layout" ({ cls := "BlockingShop$Layout", name := "machine", desc := "(I)LBlockingShop$Machine;" } : Jvm.MethodName) ({ cls := "BlockingShop$Layout", name := "machine", desc := "(I)LBlockingShop$Machine;" } : Jvm.MethodName)) ∈ lw_all := lw_g (lw_at lw_m5 141 rfl) rfl
theorem q1196 : (Jvm.Cond.code ({ cls := "BlockingShop$Layout", name := "machine", desc := "(I)LBlockingShop$Machine;" } : Jvm.MethodName) prog_4_method_2_code (3 : Nat) (Option.some (Jvm.ClassFile.FieldType.object "BlockingShop$Machine"))) ∈ lw_all := lw_g (lw_at lw_m5 142 rfl) rfl
theorem q1197 : (Jvm.Cond.methodLink "BlockingShop$Layout" (57 : Nat) ({ cls := "java/lang/Integer", name := "valueOf", desc := "(I)Ljava/lang/Integer;" } : Jvm.MethodName)) ∈ lw_all := lw_g (lw_at lw_m5 143 rfl) rfl
theorem q1217 : (Jvm.Cond.methodLink "BlockingShop$Layout" (63 : Nat) ({ cls := "java/util/TreeMap", name := "get", desc := "(Ljava/lang/Object;)Ljava/lang/Object;" } : Jvm.MethodName)) ∈ lw_all := lw_g (lw_at lw_m5 163 rfl) rfl
theorem q1432 : (Jvm.Cond.methodLink "BlockingShop$Layout" (84 : Nat) ({ cls := "BlockingShop$Layout", name := "isLast", desc := "(I)Z" } : Jvm.MethodName)) ∈ lw_all := lw_g (lw_at lw_m6 138 rfl) rfl
theorem q1433 : (Jvm.Cond.instanceMethod ({ cls := "BlockingShop$Layout", name := "isLast", desc := "(I)Z" } : Jvm.MethodName)) ∈ lw_all := lw_g (lw_at lw_m6 139 rfl) rfl
theorem q1434 : (Jvm.Cond.selects "BlockingShop$Layout" ({ cls := "BlockingShop$Layout", name := "isLast", desc := "(I)Z" } : Jvm.MethodName) ({ cls := "BlockingShop$Layout", name := "isLast", desc := "(I)Z" } : Jvm.MethodName)) ∈ lw_all := lw_g (lw_at lw_m6 140 rfl) rfl
theorem q1435 : (Jvm.Cond.code ({ cls := "BlockingShop$Layout", name := "isLast", desc := "(I)Z" } : Jvm.MethodName) prog_4_method_3_code (2 : Nat) (Option.some Jvm.ClassFile.FieldType.boolean)) ∈ lw_all := lw_g (lw_at lw_m6 141 rfl) rfl
theorem q1436 : (Jvm.Cond.interfaceEntry "BlockingShop$Layout" (67 : Nat)) ∈ lw_tbl := lw_at lw_m6 142 rfl
theorem q1437 : (Jvm.Cond.methodLink "BlockingShop$Layout" (67 : Nat) ({ cls := "java/util/List", name := "get", desc := "(I)Ljava/lang/Object;" } : Jvm.MethodName)) ∈ lw_all := lw_g (lw_at lw_m6 143 rfl) rfl
theorem q1438 : (Jvm.Cond.classLink "BlockingShop$Layout" (72 : Nat) "BlockingShop$Job") ∈ lw_all := lw_g (lw_at lw_m6 144 rfl) rfl
theorem q1484 : (Jvm.Cond.selects "BlockingShop$Layout" ({ cls := "java/lang/Object", name := "getClass", desc := "()Ljava/lang/Class;" } : Jvm.MethodName) ({ cls := "java/lang/Object", name := "getClass", desc := "()Ljava/lang/Class;" } : Jvm.MethodName)) ∈ lw_all := lw_g (lw_at lw_m6 190 rfl) rfl
theorem q1872 : (Jvm.Cond.instanceMethod ({ cls := "BlockingShop$Layout", name := "exists", desc := "(I)Z" } : Jvm.MethodName)) ∈ lw_all := lw_g (lw_at lw_m8 98 rfl) rfl
theorem q1873 : (Jvm.Cond.selects "BlockingShop$Layout" ({ cls := "BlockingShop$Layout", name := "exists", desc := "(I)Z" } : Jvm.MethodName) ({ cls := "BlockingShop$Layout", name := "exists", desc := "(I)Z" } : Jvm.MethodName)) ∈ lw_all := lw_g (lw_at lw_m8 99 rfl) rfl
theorem q1874 : (Jvm.Cond.code ({ cls := "BlockingShop$Layout", name := "exists", desc := "(I)Z" } : Jvm.MethodName) prog_4_method_6_code (2 : Nat) (Option.some Jvm.ClassFile.FieldType.boolean)) ∈ lw_all := lw_g (lw_at lw_m8 100 rfl) rfl
theorem q1875 : (Jvm.Cond.interfaceEntry "BlockingShop$Layout" (88 : Nat)) ∈ lw_tbl := lw_at lw_m8 101 rfl
theorem q1876 : (Jvm.Cond.methodLink "BlockingShop$Layout" (88 : Nat) ({ cls := "java/util/List", name := "size", desc := "()I" } : Jvm.MethodName)) ∈ lw_all := lw_g (lw_at lw_m8 102 rfl) rfl
theorem q2174 : (Jvm.Cond.fieldLinkNest "BlockingShop$Layout" (74 : Nat) "BlockingShop$Job" "count" "I" "BlockingShop") ∈ lw_tbl := lw_at lw_m9 160 rfl
theorem q2377 : (Jvm.Cond.selects "BlockingShop$Layout" ({ cls := "java/lang/Object", name := "equals", desc := "(Ljava/lang/Object;)Z" } : Jvm.MethodName) ({ cls := "java/lang/Object", name := "equals", desc := "(Ljava/lang/Object;)Z" } : Jvm.MethodName)) ∈ lw_all := lw_g (lw_at lw_m10 123 rfl) rfl
theorem q3147 : (Jvm.Cond.castable "BlockingShop$Layout" "java/lang/Object") ∈ lw_tbl := lw_at lw_m13 173 rfl
theorem in_X4 : ∀ w ∈ wsX40, w ∈ lw_all := lw_in wsX40 [343, 345, 347, 349, 351, 353, 355] (by decide +kernel) (by decide +kernel)

/-! BlockingShop$Node -/
set_option maxRecDepth 100000
def RX5 : String := "BlockingShop$Node"
abbrev cX5_init : ByteArray := prog_7_method_1_code
def yX5_init : MethodName := ⟨RX5, "<init>", "()V"⟩
theorem dX5_init_0 : decode cX5_init 0 = .ok (.aload_n 0, 1) := by decide +kernel
theorem dX5_init_1 : decode cX5_init 1 = .ok (.invokespecial 1, 3) := by decide +kernel
theorem dX5_init_4 : decode cX5_init 4 = .ok (.return_, 1) := by decide +kernel
theorem q105 : (Jvm.Cond.initialized "BlockingShop$Node") ∈ lw_all := lw_g (lw_at lw_m1 11 rfl) rfl
theorem q300 : (Jvm.Cond.instanceMethod ({ cls := "BlockingShop$Node", name := "<init>", desc := "()V" } : Jvm.MethodName)) ∈ lw_all := lw_g (lw_at lw_m1 206 rfl) rfl
theorem q301 : (Jvm.Cond.code ({ cls := "BlockingShop$Node", name := "<init>", desc := "()V" } : Jvm.MethodName) prog_7_method_1_code (1 : Nat) (Option.none : Option Jvm.ClassFile.FieldType)) ∈ lw_all := lw_g (lw_at lw_m1 207 rfl) rfl
theorem q302 : (Jvm.Cond.methodLink "BlockingShop$Node" (1 : Nat) ({ cls := "java/lang/Object", name := "<init>", desc := "()V" } : Jvm.MethodName)) ∈ lw_all := lw_g (lw_at lw_m1 208 rfl) rfl
theorem q894 : (Jvm.Cond.declares ({ cls := "BlockingShop$Node", name := "of", desc := "(LBlockingShop$Job;J)J" } : Jvm.MethodName)) ∈ lw_tbl := lw_at lw_m4 80 rfl
theorem q895 : (Jvm.Cond.sameMethod "BlockingShop$Node" "BlockingShop$Node" "of" "(LBlockingShop$Job;J)J") ∈ lw_all := lw_g (lw_at lw_m4 81 rfl) rfl

/-! BlockingShop$Variable -/
set_option maxRecDepth 100000
def RX6 : String := "BlockingShop$Variable"
def TX6 : u_T := fun k => match k with
  | _ => ("BlockingShop$Variable", "name", "Ljava/lang/String;", true)
def tyX6 : Nat → FieldType := fun k => match k with
  | _ => .object "java/lang/String"
abbrev wsX60 : List Cond := u_ws RX6 TX6 1
theorem nmX6 : ∀ a, a < 1 → ∀ b, b < 1 → a ≠ b → (TX6 a).2.1 ≠ (TX6 b).2.1 := by decide +kernel
theorem tyX6_ok : ∀ k, k < 1 → parseFieldDescriptor (TX6 k).2.2.1 = some (tyX6 k) := by decide +kernel
abbrev cX6_init : ByteArray := prog_13_method_1_code
def yX6_init : MethodName := ⟨RX6, "<init>", "(Ljava/lang/String;)V"⟩
def dkwX6_init_0 : List UInt8 := [42, 183, 0, 1, 42, 43, 181, 0, 7, 177]
abbrev dktX6_init_0 : List UInt8 := dkwX6_init_0 ++ []
theorem dksX6_init_0 : cX6_init.data.toList.drop 0 = dktX6_init_0 := by decide +kernel
theorem dX6_init_0 : decode cX6_init 0 = .ok (.aload_n 0, 1) := dk_42 (dk_at dksX6_init_0 0 rfl rfl)
theorem dX6_init_1 : decode cX6_init 1 = .ok (.invokespecial 1, 3) := dk_183 0 1 (dk_at dksX6_init_0 1 rfl rfl)
theorem dX6_init_4 : decode cX6_init 4 = .ok (.aload_n 0, 1) := dk_42 (dk_at dksX6_init_0 4 rfl rfl)
theorem dX6_init_5 : decode cX6_init 5 = .ok (.aload_n 1, 1) := dk_43 (dk_at dksX6_init_0 5 rfl rfl)
theorem dX6_init_6 : decode cX6_init 6 = .ok (.putfield 7, 3) := dk_181 0 7 (dk_at dksX6_init_0 6 rfl rfl)
theorem dX6_init_9 : decode cX6_init 9 = .ok (.return_, 1) := dk_177 (dk_at dksX6_init_0 9 rfl rfl)
abbrev cX6_of : ByteArray := prog_13_method_2_code
def yX6_of : MethodName := ⟨RX6, "of", "(LBlockingShop$Job;J)J"⟩
def dkwX6_of_5 : List UInt8 := [43, 180, 0, 29, 133, 173, 43, 180, 0, 34, 133, 173, 43, 180, 0, 36, 133, 173, 32, 173]
abbrev dktX6_of_5 : List UInt8 := dkwX6_of_5 ++ []
def dkwX6_of_4 : List UInt8 := [170, 0, 0, 0, 43, 0, 0, 0, 0, 0, 0, 0, 2, 0, 0, 0, 25, 0, 0, 0, 31, 0, 0, 0, 37]
abbrev dktX6_of_4 : List UInt8 := dkwX6_of_4 ++ dktX6_of_5
def dkwX6_of_3 : List UInt8 := [153, 0, 22, 4, 54, 5, 167, 0, 16, 25, 4, 18, 27, 182, 0, 21, 153, 0, 6, 5, 54, 5, 21, 5]
abbrev dktX6_of_3 : List UInt8 := dkwX6_of_3 ++ dktX6_of_4
def dkwX6_of_2 : List UInt8 := [25, 4, 18, 19, 182, 0, 21, 153, 0, 38, 3, 54, 5, 167, 0, 32, 25, 4, 18, 25, 182, 0, 21]
abbrev dktX6_of_2 : List UInt8 := dkwX6_of_2 ++ dktX6_of_3
def dkwX6_of_1 : List UInt8 := [171, 0, 0, 0, 0, 79, 0, 0, 0, 3, 208, 209, 66, 120, 0, 0, 0, 50, 0, 1, 133, 244, 0, 0, 0, 34, 65, 1, 40, 7, 0, 0, 0, 66]
abbrev dktX6_of_1 : List UInt8 := dkwX6_of_1 ++ dktX6_of_2
def dkwX6_of_0 : List UInt8 := [42, 180, 0, 7, 58, 4, 2, 54, 5, 25, 4, 182, 0, 13]
abbrev dktX6_of_0 : List UInt8 := dkwX6_of_0 ++ dktX6_of_1
theorem dksX6_of_0 : cX6_of.data.toList.drop 0 = dktX6_of_0 := by decide +kernel
theorem dksX6_of_1 : cX6_of.data.toList.drop 14 = dktX6_of_1 := dk_seg dksX6_of_0 14 rfl rfl
theorem dksX6_of_2 : cX6_of.data.toList.drop 48 = dktX6_of_2 := dk_seg dksX6_of_1 34 rfl rfl
theorem dksX6_of_3 : cX6_of.data.toList.drop 71 = dktX6_of_3 := dk_seg dksX6_of_2 23 rfl rfl
theorem dksX6_of_4 : cX6_of.data.toList.drop 95 = dktX6_of_4 := dk_seg dksX6_of_3 24 rfl rfl
theorem dksX6_of_5 : cX6_of.data.toList.drop 120 = dktX6_of_5 := dk_seg dksX6_of_4 25 rfl rfl
theorem dX6_of_0 : decode cX6_of 0 = .ok (.aload_n 0, 1) := dk_42 (dk_at dksX6_of_0 0 rfl rfl)
theorem dX6_of_1 : decode cX6_of 1 = .ok (.getfield 7, 3) := dk_180 0 7 (dk_at dksX6_of_0 1 rfl rfl)
theorem dX6_of_4 : decode cX6_of 4 = .ok (.astore 4, 2) := dk_58 4 (dk_at dksX6_of_0 4 rfl rfl)
theorem dX6_of_6 : decode cX6_of 6 = .ok (.iconst (-1), 1) := dk_2 (dk_at dksX6_of_0 6 rfl rfl)
theorem dX6_of_7 : decode cX6_of 7 = .ok (.istore 5, 2) := dk_54 5 (dk_at dksX6_of_0 7 rfl rfl)
theorem dX6_of_9 : decode cX6_of 9 = .ok (.aload 4, 2) := dk_25 4 (dk_at dksX6_of_0 9 rfl rfl)
theorem dX6_of_11 : decode cX6_of 11 = .ok (.invokevirtual 13, 3) := dk_182 0 13 (dk_at dksX6_of_0 11 rfl rfl)
theorem dX6_of_14 : decode cX6_of 14 = .ok (.lookupswitch 79 #[(-791592328, 50), (99828, 34), (1090594823, 66)], 34) := by decide +kernel
theorem dX6_of_48 : decode cX6_of 48 = .ok (.aload 4, 2) := dk_25 4 (dk_at dksX6_of_2 0 rfl rfl)
theorem dX6_of_50 : decode cX6_of 50 = .ok (.ldc 19, 2) := dk_18 19 (dk_at dksX6_of_2 2 rfl rfl)
theorem dX6_of_52 : decode cX6_of 52 = .ok (.invokevirtual 21, 3) := dk_182 0 21 (dk_at dksX6_of_2 4 rfl rfl)
theorem dX6_of_55 : decode cX6_of 55 = .ok (.ifCond .eq 38, 3) := dk_153 0 38 (dk_at dksX6_of_2 7 rfl rfl)
theorem dX6_of_58 : decode cX6_of 58 = .ok (.iconst 0, 1) := dk_3 (dk_at dksX6_of_2 10 rfl rfl)
theorem dX6_of_59 : decode cX6_of 59 = .ok (.istore 5, 2) := dk_54 5 (dk_at dksX6_of_2 11 rfl rfl)
theorem dX6_of_61 : decode cX6_of 61 = .ok (.goto 32, 3) := dk_167 0 32 (dk_at dksX6_of_2 13 rfl rfl)
theorem dX6_of_64 : decode cX6_of 64 = .ok (.aload 4, 2) := dk_25 4 (dk_at dksX6_of_2 16 rfl rfl)
theorem dX6_of_66 : decode cX6_of 66 = .ok (.ldc 25, 2) := dk_18 25 (dk_at dksX6_of_2 18 rfl rfl)
theorem dX6_of_68 : decode cX6_of 68 = .ok (.invokevirtual 21, 3) := dk_182 0 21 (dk_at dksX6_of_2 20 rfl rfl)
theorem dX6_of_71 : decode cX6_of 71 = .ok (.ifCond .eq 22, 3) := dk_153 0 22 (dk_at dksX6_of_3 0 rfl rfl)
theorem dX6_of_74 : decode cX6_of 74 = .ok (.iconst 1, 1) := dk_4 (dk_at dksX6_of_3 3 rfl rfl)
theorem dX6_of_75 : decode cX6_of 75 = .ok (.istore 5, 2) := dk_54 5 (dk_at dksX6_of_3 4 rfl rfl)
theorem dX6_of_77 : decode cX6_of 77 = .ok (.goto 16, 3) := dk_167 0 16 (dk_at dksX6_of_3 6 rfl rfl)
theorem dX6_of_80 : decode cX6_of 80 = .ok (.aload 4, 2) := dk_25 4 (dk_at dksX6_of_3 9 rfl rfl)
theorem dX6_of_82 : decode cX6_of 82 = .ok (.ldc 27, 2) := dk_18 27 (dk_at dksX6_of_3 11 rfl rfl)
theorem dX6_of_84 : decode cX6_of 84 = .ok (.invokevirtual 21, 3) := dk_182 0 21 (dk_at dksX6_of_3 13 rfl rfl)
theorem dX6_of_87 : decode cX6_of 87 = .ok (.ifCond .eq 6, 3) := dk_153 0 6 (dk_at dksX6_of_3 16 rfl rfl)
theorem dX6_of_90 : decode cX6_of 90 = .ok (.iconst 2, 1) := dk_5 (dk_at dksX6_of_3 19 rfl rfl)
theorem dX6_of_91 : decode cX6_of 91 = .ok (.istore 5, 2) := dk_54 5 (dk_at dksX6_of_3 20 rfl rfl)
theorem dX6_of_93 : decode cX6_of 93 = .ok (.iload 5, 2) := dk_21 5 (dk_at dksX6_of_3 22 rfl rfl)
theorem dX6_of_95 : decode cX6_of 95 = .ok (.tableswitch 43 0 2 #[25, 31, 37], 25) := by decide +kernel
theorem dX6_of_120 : decode cX6_of 120 = .ok (.aload_n 1, 1) := dk_43 (dk_at dksX6_of_5 0 rfl rfl)
theorem dX6_of_121 : decode cX6_of 121 = .ok (.getfield 29, 3) := dk_180 0 29 (dk_at dksX6_of_5 1 rfl rfl)
theorem dX6_of_124 : decode cX6_of 124 = .ok (.i2l, 1) := dk_133 (dk_at dksX6_of_5 4 rfl rfl)
theorem dX6_of_125 : decode cX6_of 125 = .ok (.lreturn, 1) := dk_173 (dk_at dksX6_of_5 5 rfl rfl)
theorem dX6_of_126 : decode cX6_of 126 = .ok (.aload_n 1, 1) := dk_43 (dk_at dksX6_of_5 6 rfl rfl)
theorem dX6_of_127 : decode cX6_of 127 = .ok (.getfield 34, 3) := dk_180 0 34 (dk_at dksX6_of_5 7 rfl rfl)
theorem dX6_of_130 : decode cX6_of 130 = .ok (.i2l, 1) := dk_133 (dk_at dksX6_of_5 10 rfl rfl)
theorem dX6_of_131 : decode cX6_of 131 = .ok (.lreturn, 1) := dk_173 (dk_at dksX6_of_5 11 rfl rfl)
theorem dX6_of_132 : decode cX6_of 132 = .ok (.aload_n 1, 1) := dk_43 (dk_at dksX6_of_5 12 rfl rfl)
theorem dX6_of_133 : decode cX6_of 133 = .ok (.getfield 36, 3) := dk_180 0 36 (dk_at dksX6_of_5 13 rfl rfl)
theorem dX6_of_136 : decode cX6_of 136 = .ok (.i2l, 1) := dk_133 (dk_at dksX6_of_5 16 rfl rfl)
theorem dX6_of_137 : decode cX6_of 137 = .ok (.lreturn, 1) := dk_173 (dk_at dksX6_of_5 17 rfl rfl)
theorem dX6_of_138 : decode cX6_of 138 = .ok (.lload_n 2, 1) := dk_32 (dk_at dksX6_of_5 18 rfl rfl)
theorem dX6_of_139 : decode cX6_of 139 = .ok (.lreturn, 1) := dk_173 (dk_at dksX6_of_5 19 rfl rfl)
theorem q106 : (Jvm.Cond.initialized "BlockingShop$Variable") ∈ lw_all := lw_g (lw_at lw_m1 12 rfl) rfl
theorem q294 : (Jvm.Cond.instantiable "BlockingShop$Variable" (1 : Nat)) ∈ lw_all := lw_g (lw_at lw_m1 200 rfl) rfl
theorem q297 : (Jvm.Cond.instanceMethod ({ cls := "BlockingShop$Variable", name := "<init>", desc := "(Ljava/lang/String;)V" } : Jvm.MethodName)) ∈ lw_all := lw_g (lw_at lw_m1 203 rfl) rfl
theorem q298 : (Jvm.Cond.code ({ cls := "BlockingShop$Variable", name := "<init>", desc := "(Ljava/lang/String;)V" } : Jvm.MethodName) prog_13_method_1_code (2 : Nat) (Option.none : Option Jvm.ClassFile.FieldType)) ∈ lw_all := lw_g (lw_at lw_m1 204 rfl) rfl
theorem q299 : (Jvm.Cond.methodLinkNest "BlockingShop$Variable" (1 : Nat) ({ cls := "BlockingShop$Node", name := "<init>", desc := "()V" } : Jvm.MethodName) "BlockingShop") ∈ lw_tbl := lw_at lw_m1 205 rfl
theorem q303 : (Jvm.Cond.fieldLink "BlockingShop$Variable" (7 : Nat) "BlockingShop$Variable" "name" "Ljava/lang/String;") ∈ lw_all := lw_g (lw_at lw_m1 209 rfl) rfl
theorem q304 : (Jvm.Cond.laysFinal "BlockingShop$Variable" "BlockingShop$Variable" "name" "Ljava/lang/String;") ∈ lw_all := lw_g (lw_at lw_m1 210 rfl) rfl
theorem q305 : (Jvm.Cond.soleField "BlockingShop$Variable" "name") ∈ lw_all := lw_g (lw_at lw_m1 211 rfl) rfl
theorem q306 : (Jvm.Cond.superclass "BlockingShop$Variable" "BlockingShop$Node") ∈ lw_all := lw_g (lw_at lw_m1 212 rfl) rfl
theorem q903 : (Jvm.Cond.instanceMethod ({ cls := "BlockingShop$Variable", name := "of", desc := "(LBlockingShop$Job;J)J" } : Jvm.MethodName)) ∈ lw_all := lw_g (lw_at lw_m4 89 rfl) rfl
theorem q904 : (Jvm.Cond.code ({ cls := "BlockingShop$Variable", name := "of", desc := "(LBlockingShop$Job;J)J" } : Jvm.MethodName) prog_13_method_2_code (6 : Nat) (Option.some Jvm.ClassFile.FieldType.long)) ∈ lw_all := lw_g (lw_at lw_m4 90 rfl) rfl
theorem q905 : (Jvm.Cond.methodLink "BlockingShop$Variable" (13 : Nat) ({ cls := "java/lang/String", name := "hashCode", desc := "()I" } : Jvm.MethodName)) ∈ lw_all := lw_g (lw_at lw_m4 91 rfl) rfl
theorem q966 : (Jvm.Cond.stringRef "BlockingShop$Variable" (19 : Nat) "due") ∈ lw_tbl := lw_at lw_m4 152 rfl
theorem q967 : (Jvm.Cond.methodLink "BlockingShop$Variable" (21 : Nat) ({ cls := "java/lang/String", name := "equals", desc := "(Ljava/lang/Object;)Z" } : Jvm.MethodName)) ∈ lw_all := lw_g (lw_at lw_m4 153 rfl) rfl
theorem q975 : (Jvm.Cond.stringRef "BlockingShop$Variable" (25 : Nat) "weight") ∈ lw_tbl := lw_at lw_m4 161 rfl
theorem q976 : (Jvm.Cond.stringRef "BlockingShop$Variable" (27 : Nat) "release") ∈ lw_tbl := lw_at lw_m4 162 rfl
theorem q985 : (Jvm.Cond.selects "BlockingShop$Variable" ({ cls := "BlockingShop$Node", name := "of", desc := "(LBlockingShop$Job;J)J" } : Jvm.MethodName) ({ cls := "BlockingShop$Variable", name := "of", desc := "(LBlockingShop$Job;J)J" } : Jvm.MethodName)) ∈ lw_all := lw_g (lw_at lw_m4 171 rfl) rfl
theorem q1492 : (Jvm.Cond.selects "BlockingShop$Variable" ({ cls := "java/lang/Object", name := "getClass", desc := "()Ljava/lang/Class;" } : Jvm.MethodName) ({ cls := "java/lang/Object", name := "getClass", desc := "()Ljava/lang/Class;" } : Jvm.MethodName)) ∈ lw_all := lw_g (lw_at lw_m6 198 rfl) rfl
theorem q2167 : (Jvm.Cond.fieldLinkNest "BlockingShop$Variable" (36 : Nat) "BlockingShop$Job" "release" "I" "BlockingShop") ∈ lw_tbl := lw_at lw_m9 153 rfl
theorem q2171 : (Jvm.Cond.fieldLinkNest "BlockingShop$Variable" (29 : Nat) "BlockingShop$Job" "due" "I" "BlockingShop") ∈ lw_tbl := lw_at lw_m9 157 rfl
theorem q2173 : (Jvm.Cond.fieldLinkNest "BlockingShop$Variable" (34 : Nat) "BlockingShop$Job" "weight" "I" "BlockingShop") ∈ lw_tbl := lw_at lw_m9 159 rfl
theorem q2385 : (Jvm.Cond.selects "BlockingShop$Variable" ({ cls := "java/lang/Object", name := "equals", desc := "(Ljava/lang/Object;)Z" } : Jvm.MethodName) ({ cls := "java/lang/Object", name := "equals", desc := "(Ljava/lang/Object;)Z" } : Jvm.MethodName)) ∈ lw_all := lw_g (lw_at lw_m10 131 rfl) rfl
theorem q3150 : (Jvm.Cond.castable "BlockingShop$Variable" "java/lang/Object") ∈ lw_tbl := lw_at lw_m13 176 rfl
theorem in_X6 : ∀ w ∈ wsX60, w ∈ lw_all := lw_in wsX60 [304] (by decide +kernel) (by decide +kernel)

/-! BlockingShop$Machine -/
set_option maxRecDepth 100000
def RX7 : String := "BlockingShop$Machine"
def TX7 : u_T := fun k => match k with
  | 0 => ("BlockingShop$Machine", "isBlocking", "Z", true)
  | _ => ("BlockingShop$Machine", "setup", "I", true)
def tyX7 : Nat → FieldType := fun k => match k with
  | 0 => .boolean
  | _ => .int
abbrev wsX70 : List Cond := u_ws RX7 TX7 2
theorem nmX7 : ∀ a, a < 2 → ∀ b, b < 2 → a ≠ b → (TX7 a).2.1 ≠ (TX7 b).2.1 := by decide +kernel
theorem tyX7_ok : ∀ k, k < 2 → parseFieldDescriptor (TX7 k).2.2.1 = some (tyX7 k) := by decide +kernel
abbrev cX7_init : ByteArray := prog_6_method_1_code
def yX7_init : MethodName := ⟨RX7, "<init>", "(ZI)V"⟩
def dkwX7_init_0 : List UInt8 := [42, 183, 0, 1, 42, 27, 181, 0, 7, 42, 28, 181, 0, 13, 177]
abbrev dktX7_init_0 : List UInt8 := dkwX7_init_0 ++ []
theorem dksX7_init_0 : cX7_init.data.toList.drop 0 = dktX7_init_0 := by decide +kernel
theorem dX7_init_0 : decode cX7_init 0 = .ok (.aload_n 0, 1) := dk_42 (dk_at dksX7_init_0 0 rfl rfl)
theorem dX7_init_1 : decode cX7_init 1 = .ok (.invokespecial 1, 3) := dk_183 0 1 (dk_at dksX7_init_0 1 rfl rfl)
theorem dX7_init_4 : decode cX7_init 4 = .ok (.aload_n 0, 1) := dk_42 (dk_at dksX7_init_0 4 rfl rfl)
theorem dX7_init_5 : decode cX7_init 5 = .ok (.iload_n 1, 1) := dk_27 (dk_at dksX7_init_0 5 rfl rfl)
theorem dX7_init_6 : decode cX7_init 6 = .ok (.putfield 7, 3) := dk_181 0 7 (dk_at dksX7_init_0 6 rfl rfl)
theorem dX7_init_9 : decode cX7_init 9 = .ok (.aload_n 0, 1) := dk_42 (dk_at dksX7_init_0 9 rfl rfl)
theorem dX7_init_10 : decode cX7_init 10 = .ok (.iload_n 2, 1) := dk_28 (dk_at dksX7_init_0 10 rfl rfl)
theorem dX7_init_11 : decode cX7_init 11 = .ok (.putfield 13, 3) := dk_181 0 13 (dk_at dksX7_init_0 11 rfl rfl)
theorem dX7_init_14 : decode cX7_init 14 = .ok (.return_, 1) := dk_177 (dk_at dksX7_init_0 14 rfl rfl)
theorem q107 : (Jvm.Cond.initialized "BlockingShop$Machine") ∈ lw_all := lw_g (lw_at lw_m1 13 rfl) rfl
theorem q308 : (Jvm.Cond.instantiable "BlockingShop$Machine" (2 : Nat)) ∈ lw_all := lw_g (lw_at lw_m1 214 rfl) rfl
theorem q310 : (Jvm.Cond.instanceMethod ({ cls := "BlockingShop$Machine", name := "<init>", desc := "(ZI)V" } : Jvm.MethodName)) ∈ lw_all := lw_g (lw_at lw_m1 216 rfl) rfl
theorem q311 : (Jvm.Cond.code ({ cls := "BlockingShop$Machine", name := "<init>", desc := "(ZI)V" } : Jvm.MethodName) prog_6_method_1_code (3 : Nat) (Option.none : Option Jvm.ClassFile.FieldType)) ∈ lw_all := lw_g (lw_at lw_m1 217 rfl) rfl
theorem q312 : (Jvm.Cond.methodLink "BlockingShop$Machine" (1 : Nat) ({ cls := "java/lang/Object", name := "<init>", desc := "()V" } : Jvm.MethodName)) ∈ lw_all := lw_g (lw_at lw_m1 218 rfl) rfl
theorem q313 : (Jvm.Cond.fieldLink "BlockingShop$Machine" (7 : Nat) "BlockingShop$Machine" "isBlocking" "Z") ∈ lw_all := lw_g (lw_at lw_m1 219 rfl) rfl
theorem q315 : (Jvm.Cond.fieldLink "BlockingShop$Machine" (13 : Nat) "BlockingShop$Machine" "setup" "I") ∈ lw_all := lw_g (lw_at lw_m1 221 rfl) rfl
theorem q317 : (Jvm.Cond.laysFinal "BlockingShop$Machine" "BlockingShop$Machine" "isBlocking" "Z") ∈ lw_all := lw_g (lw_at lw_m1 223 rfl) rfl
theorem q318 : (Jvm.Cond.soleField "BlockingShop$Machine" "isBlocking") ∈ lw_all := lw_g (lw_at lw_m1 224 rfl) rfl
theorem q319 : (Jvm.Cond.laysFinal "BlockingShop$Machine" "BlockingShop$Machine" "setup" "I") ∈ lw_all := lw_g (lw_at lw_m1 225 rfl) rfl
theorem q320 : (Jvm.Cond.soleField "BlockingShop$Machine" "setup") ∈ lw_all := lw_g (lw_at lw_m1 226 rfl) rfl
theorem q321 : (Jvm.Cond.superclass "BlockingShop$Machine" "java/lang/Object") ∈ lw_all := lw_g (lw_at lw_m1 227 rfl) rfl
theorem q1486 : (Jvm.Cond.selects "BlockingShop$Machine" ({ cls := "java/lang/Object", name := "getClass", desc := "()Ljava/lang/Class;" } : Jvm.MethodName) ({ cls := "java/lang/Object", name := "getClass", desc := "()Ljava/lang/Class;" } : Jvm.MethodName)) ∈ lw_all := lw_g (lw_at lw_m6 192 rfl) rfl
theorem q2379 : (Jvm.Cond.selects "BlockingShop$Machine" ({ cls := "java/lang/Object", name := "equals", desc := "(Ljava/lang/Object;)Z" } : Jvm.MethodName) ({ cls := "java/lang/Object", name := "equals", desc := "(Ljava/lang/Object;)Z" } : Jvm.MethodName)) ∈ lw_all := lw_g (lw_at lw_m10 125 rfl) rfl
theorem q3151 : (Jvm.Cond.castable "BlockingShop$Machine" "java/lang/Object") ∈ lw_tbl := lw_at lw_m13 177 rfl
theorem in_X7 : ∀ w ∈ wsX70, w ∈ lw_all := lw_in wsX70 [317, 319] (by decide +kernel) (by decide +kernel)

/-! BlockingShop$Parser -/
set_option maxRecDepth 100000
def RX9 : String := "BlockingShop$Parser"
def TX9 : u_T := fun k => match k with
  | 0 => ("BlockingShop$Parser", "length", "I", true)
  | 1 => ("BlockingShop$Parser", "durations", "[I", true)
  | 2 => ("BlockingShop$Parser", "layout", "LBlockingShop$Layout;", false)
  | 3 => ("BlockingShop$Parser", "next", "I", false)
  | 4 => ("BlockingShop$Parser", "start", "I", false)
  | 5 => ("BlockingShop$Parser", "depth", "I", false)
  | 6 => ("BlockingShop$Parser", "hasCost", "Z", false)
  | _ => ("BlockingShop$Parser", "this$0", "LBlockingShop;", true)
def tyX9 : Nat → FieldType := fun k => match k with
  | 0 => .int
  | 1 => .array .int
  | 2 => .object "BlockingShop$Layout"
  | 3 => .int
  | 4 => .int
  | 5 => .int
  | 6 => .boolean
  | _ => .object "BlockingShop"
abbrev wsX90 : List Cond := u_ws RX9 TX9 8
theorem nmX9 : ∀ a, a < 8 → ∀ b, b < 8 → a ≠ b → (TX9 a).2.1 ≠ (TX9 b).2.1 := by decide +kernel
theorem tyX9_ok : ∀ k, k < 8 → parseFieldDescriptor (TX9 k).2.2.1 = some (tyX9 k) := by decide +kernel
abbrev cX9_init : ByteArray := prog_9_method_1_code
def yX9_init : MethodName := ⟨RX9, "<init>", "(LBlockingShop;I)V"⟩
def dkwX9_init_0 : List UInt8 := [42, 43, 181, 0, 3, 42, 183, 0, 9, 42, 16, 36, 188, 10, 181, 0, 15, 42, 28, 181, 0, 19, 177]
abbrev dktX9_init_0 : List UInt8 := dkwX9_init_0 ++ []
theorem dksX9_init_0 : cX9_init.data.toList.drop 0 = dktX9_init_0 := by decide +kernel
theorem dX9_init_0 : decode cX9_init 0 = .ok (.aload_n 0, 1) := dk_42 (dk_at dksX9_init_0 0 rfl rfl)
theorem dX9_init_1 : decode cX9_init 1 = .ok (.aload_n 1, 1) := dk_43 (dk_at dksX9_init_0 1 rfl rfl)
theorem dX9_init_2 : decode cX9_init 2 = .ok (.putfield 3, 3) := dk_181 0 3 (dk_at dksX9_init_0 2 rfl rfl)
theorem dX9_init_5 : decode cX9_init 5 = .ok (.aload_n 0, 1) := dk_42 (dk_at dksX9_init_0 5 rfl rfl)
theorem dX9_init_6 : decode cX9_init 6 = .ok (.invokespecial 9, 3) := dk_183 0 9 (dk_at dksX9_init_0 6 rfl rfl)
theorem dX9_init_9 : decode cX9_init 9 = .ok (.aload_n 0, 1) := dk_42 (dk_at dksX9_init_0 9 rfl rfl)
theorem dX9_init_10 : decode cX9_init 10 = .ok (.bipush 36, 2) := dk_16 36 (dk_at dksX9_init_0 10 rfl rfl)
theorem dX9_init_12 : decode cX9_init 12 = .ok (.newarray .int, 2) := dk_188_10 (dk_at dksX9_init_0 12 rfl rfl)
theorem dX9_init_14 : decode cX9_init 14 = .ok (.putfield 15, 3) := dk_181 0 15 (dk_at dksX9_init_0 14 rfl rfl)
theorem dX9_init_17 : decode cX9_init 17 = .ok (.aload_n 0, 1) := dk_42 (dk_at dksX9_init_0 17 rfl rfl)
theorem dX9_init_18 : decode cX9_init 18 = .ok (.iload_n 2, 1) := dk_28 (dk_at dksX9_init_0 18 rfl rfl)
theorem dX9_init_19 : decode cX9_init 19 = .ok (.putfield 19, 3) := dk_181 0 19 (dk_at dksX9_init_0 19 rfl rfl)
theorem dX9_init_22 : decode cX9_init 22 = .ok (.return_, 1) := dk_177 (dk_at dksX9_init_0 22 rfl rfl)
abbrev cX9_parse : ByteArray := prog_9_method_14_code
def yX9_parse : MethodName := ⟨RX9, "parse", "()LBlockingShop$Plan;"⟩
def dkwX9_parse_6 : List UInt8 := [3, 16, 36, 184, 0, 243, 45, 182, 0, 249, 45, 176]
abbrev dktX9_parse_6 : List UInt8 := dkwX9_parse_6 ++ []
def dkwX9_parse_5 : List UInt8 := [182, 0, 47, 187, 0, 237, 89, 42, 180, 0, 140, 183, 0, 239, 78, 42, 180, 0, 15, 3, 45, 180, 0, 242]
abbrev dktX9_parse_5 : List UInt8 := dkwX9_parse_5 ++ dktX9_parse_6
def dkwX9_parse_4 : List UInt8 := [180, 0, 154, 185, 0, 233, 1, 0, 154, 0, 7, 4, 167, 0, 4, 3, 16, 254, 42, 180, 0, 19]
abbrev dktX9_parse_4 : List UInt8 := dkwX9_parse_4 ++ dktX9_parse_5
def dkwX9_parse_3 : List UInt8 := [182, 0, 98, 42, 182, 0, 43, 2, 159, 0, 10, 42, 182, 0, 230, 167, 255, 244, 42, 42, 180, 0, 140]
abbrev dktX9_parse_3 : List UInt8 := dkwX9_parse_3 ++ dktX9_parse_4
def dkwX9_parse_2 : List UInt8 := [4, 182, 0, 104, 4, 160, 0, 7, 4, 167, 0, 4, 3, 183, 0, 227, 181, 0, 140, 42, 16, 59]
abbrev dktX9_parse_2 : List UInt8 := dkwX9_parse_2 ++ dktX9_parse_3
def dkwX9_parse_1 : List UInt8 := [180, 0, 23, 7, 96, 181, 0, 23, 42, 4, 16, 6, 182, 0, 104, 61, 42, 187, 0, 145, 89, 28, 42, 3]
abbrev dktX9_parse_1 : List UInt8 := dkwX9_parse_1 ++ dktX9_parse_2
def dkwX9_parse_0 : List UInt8 := [42, 182, 0, 110, 18, 225, 182, 0, 166, 60, 42, 27, 16, 254, 42, 180, 0, 23, 182, 0, 47, 42, 89]
abbrev dktX9_parse_0 : List UInt8 := dkwX9_parse_0 ++ dktX9_parse_1
theorem dksX9_parse_0 : cX9_parse.data.toList.drop 0 = dktX9_parse_0 := by decide +kernel
theorem dksX9_parse_1 : cX9_parse.data.toList.drop 23 = dktX9_parse_1 := dk_seg dksX9_parse_0 23 rfl rfl
theorem dksX9_parse_2 : cX9_parse.data.toList.drop 47 = dktX9_parse_2 := dk_seg dksX9_parse_1 24 rfl rfl
theorem dksX9_parse_3 : cX9_parse.data.toList.drop 69 = dktX9_parse_3 := dk_seg dksX9_parse_2 22 rfl rfl
theorem dksX9_parse_4 : cX9_parse.data.toList.drop 92 = dktX9_parse_4 := dk_seg dksX9_parse_3 23 rfl rfl
theorem dksX9_parse_5 : cX9_parse.data.toList.drop 114 = dktX9_parse_5 := dk_seg dksX9_parse_4 22 rfl rfl
theorem dksX9_parse_6 : cX9_parse.data.toList.drop 138 = dktX9_parse_6 := dk_seg dksX9_parse_5 24 rfl rfl
theorem dX9_parse_0 : decode cX9_parse 0 = .ok (.aload_n 0, 1) := dk_42 (dk_at dksX9_parse_0 0 rfl rfl)
theorem dX9_parse_1 : decode cX9_parse 1 = .ok (.invokevirtual 110, 3) := dk_182 0 110 (dk_at dksX9_parse_0 1 rfl rfl)
theorem dX9_parse_4 : decode cX9_parse 4 = .ok (.ldc 225, 2) := dk_18 225 (dk_at dksX9_parse_0 4 rfl rfl)
theorem dX9_parse_6 : decode cX9_parse 6 = .ok (.invokevirtual 166, 3) := dk_182 0 166 (dk_at dksX9_parse_0 6 rfl rfl)
theorem dX9_parse_9 : decode cX9_parse 9 = .ok (.istore_n 1, 1) := dk_60 (dk_at dksX9_parse_0 9 rfl rfl)
theorem dX9_parse_10 : decode cX9_parse 10 = .ok (.aload_n 0, 1) := dk_42 (dk_at dksX9_parse_0 10 rfl rfl)
theorem dX9_parse_11 : decode cX9_parse 11 = .ok (.iload_n 1, 1) := dk_27 (dk_at dksX9_parse_0 11 rfl rfl)
theorem dX9_parse_12 : decode cX9_parse 12 = .ok (.bipush (-2), 2) := dk_16 254 (dk_at dksX9_parse_0 12 rfl rfl)
theorem dX9_parse_14 : decode cX9_parse 14 = .ok (.aload_n 0, 1) := dk_42 (dk_at dksX9_parse_0 14 rfl rfl)
theorem dX9_parse_15 : decode cX9_parse 15 = .ok (.getfield 23, 3) := dk_180 0 23 (dk_at dksX9_parse_0 15 rfl rfl)
theorem dX9_parse_18 : decode cX9_parse 18 = .ok (.invokevirtual 47, 3) := dk_182 0 47 (dk_at dksX9_parse_0 18 rfl rfl)
theorem dX9_parse_21 : decode cX9_parse 21 = .ok (.aload_n 0, 1) := dk_42 (dk_at dksX9_parse_0 21 rfl rfl)
theorem dX9_parse_22 : decode cX9_parse 22 = .ok (.dup, 1) := dk_89 (dk_at dksX9_parse_0 22 rfl rfl)
theorem dX9_parse_23 : decode cX9_parse 23 = .ok (.getfield 23, 3) := dk_180 0 23 (dk_at dksX9_parse_1 0 rfl rfl)
theorem dX9_parse_26 : decode cX9_parse 26 = .ok (.iconst 4, 1) := dk_7 (dk_at dksX9_parse_1 3 rfl rfl)
theorem dX9_parse_27 : decode cX9_parse 27 = .ok (.iadd, 1) := dk_96 (dk_at dksX9_parse_1 4 rfl rfl)
theorem dX9_parse_28 : decode cX9_parse 28 = .ok (.putfield 23, 3) := dk_181 0 23 (dk_at dksX9_parse_1 5 rfl rfl)
theorem dX9_parse_31 : decode cX9_parse 31 = .ok (.aload_n 0, 1) := dk_42 (dk_at dksX9_parse_1 8 rfl rfl)
theorem dX9_parse_32 : decode cX9_parse 32 = .ok (.iconst 1, 1) := dk_4 (dk_at dksX9_parse_1 9 rfl rfl)
theorem dX9_parse_33 : decode cX9_parse 33 = .ok (.bipush 6, 2) := dk_16 6 (dk_at dksX9_parse_1 10 rfl rfl)
theorem dX9_parse_35 : decode cX9_parse 35 = .ok (.invokevirtual 104, 3) := dk_182 0 104 (dk_at dksX9_parse_1 12 rfl rfl)
theorem dX9_parse_38 : decode cX9_parse 38 = .ok (.istore_n 2, 1) := dk_61 (dk_at dksX9_parse_1 15 rfl rfl)
theorem dX9_parse_39 : decode cX9_parse 39 = .ok (.aload_n 0, 1) := dk_42 (dk_at dksX9_parse_1 16 rfl rfl)
theorem dX9_parse_40 : decode cX9_parse 40 = .ok (.new 145, 3) := dk_187 0 145 (dk_at dksX9_parse_1 17 rfl rfl)
theorem dX9_parse_43 : decode cX9_parse 43 = .ok (.dup, 1) := dk_89 (dk_at dksX9_parse_1 20 rfl rfl)
theorem dX9_parse_44 : decode cX9_parse 44 = .ok (.iload_n 2, 1) := dk_28 (dk_at dksX9_parse_1 21 rfl rfl)
theorem dX9_parse_45 : decode cX9_parse 45 = .ok (.aload_n 0, 1) := dk_42 (dk_at dksX9_parse_1 22 rfl rfl)
theorem dX9_parse_46 : decode cX9_parse 46 = .ok (.iconst 0, 1) := dk_3 (dk_at dksX9_parse_1 23 rfl rfl)
theorem dX9_parse_47 : decode cX9_parse 47 = .ok (.iconst 1, 1) := dk_4 (dk_at dksX9_parse_2 0 rfl rfl)
theorem dX9_parse_48 : decode cX9_parse 48 = .ok (.invokevirtual 104, 3) := dk_182 0 104 (dk_at dksX9_parse_2 1 rfl rfl)
theorem dX9_parse_51 : decode cX9_parse 51 = .ok (.iconst 1, 1) := dk_4 (dk_at dksX9_parse_2 4 rfl rfl)
theorem dX9_parse_52 : decode cX9_parse 52 = .ok (.if_icmp .ne 7, 3) := dk_160 0 7 (dk_at dksX9_parse_2 5 rfl rfl)
theorem dX9_parse_55 : decode cX9_parse 55 = .ok (.iconst 1, 1) := dk_4 (dk_at dksX9_parse_2 8 rfl rfl)
theorem dX9_parse_56 : decode cX9_parse 56 = .ok (.goto 4, 3) := dk_167 0 4 (dk_at dksX9_parse_2 9 rfl rfl)
theorem dX9_parse_59 : decode cX9_parse 59 = .ok (.iconst 0, 1) := dk_3 (dk_at dksX9_parse_2 12 rfl rfl)
theorem dX9_parse_60 : decode cX9_parse 60 = .ok (.invokespecial 227, 3) := dk_183 0 227 (dk_at dksX9_parse_2 13 rfl rfl)
theorem dX9_parse_63 : decode cX9_parse 63 = .ok (.putfield 140, 3) := dk_181 0 140 (dk_at dksX9_parse_2 16 rfl rfl)
theorem dX9_parse_66 : decode cX9_parse 66 = .ok (.aload_n 0, 1) := dk_42 (dk_at dksX9_parse_2 19 rfl rfl)
theorem dX9_parse_67 : decode cX9_parse 67 = .ok (.bipush 59, 2) := dk_16 59 (dk_at dksX9_parse_2 20 rfl rfl)
theorem dX9_parse_69 : decode cX9_parse 69 = .ok (.invokevirtual 98, 3) := dk_182 0 98 (dk_at dksX9_parse_3 0 rfl rfl)
theorem dX9_parse_72 : decode cX9_parse 72 = .ok (.aload_n 0, 1) := dk_42 (dk_at dksX9_parse_3 3 rfl rfl)
theorem dX9_parse_73 : decode cX9_parse 73 = .ok (.invokevirtual 43, 3) := dk_182 0 43 (dk_at dksX9_parse_3 4 rfl rfl)
theorem dX9_parse_76 : decode cX9_parse 76 = .ok (.iconst (-1), 1) := dk_2 (dk_at dksX9_parse_3 7 rfl rfl)
theorem dX9_parse_77 : decode cX9_parse 77 = .ok (.if_icmp .eq 10, 3) := dk_159 0 10 (dk_at dksX9_parse_3 8 rfl rfl)
theorem dX9_parse_80 : decode cX9_parse 80 = .ok (.aload_n 0, 1) := dk_42 (dk_at dksX9_parse_3 11 rfl rfl)
theorem dX9_parse_81 : decode cX9_parse 81 = .ok (.invokevirtual 230, 3) := dk_182 0 230 (dk_at dksX9_parse_3 12 rfl rfl)
theorem dX9_parse_84 : decode cX9_parse 84 = .ok (.goto (-12), 3) := dk_167 255 244 (dk_at dksX9_parse_3 15 rfl rfl)
theorem dX9_parse_87 : decode cX9_parse 87 = .ok (.aload_n 0, 1) := dk_42 (dk_at dksX9_parse_3 18 rfl rfl)
theorem dX9_parse_88 : decode cX9_parse 88 = .ok (.aload_n 0, 1) := dk_42 (dk_at dksX9_parse_3 19 rfl rfl)
theorem dX9_parse_89 : decode cX9_parse 89 = .ok (.getfield 140, 3) := dk_180 0 140 (dk_at dksX9_parse_3 20 rfl rfl)
theorem dX9_parse_92 : decode cX9_parse 92 = .ok (.getfield 154, 3) := dk_180 0 154 (dk_at dksX9_parse_4 0 rfl rfl)
theorem dX9_parse_95 : decode cX9_parse 95 = .ok (.invokeinterface 233 1, 5) := by decide +kernel
theorem dX9_parse_100 : decode cX9_parse 100 = .ok (.ifCond .ne 7, 3) := dk_154 0 7 (dk_at dksX9_parse_4 8 rfl rfl)
theorem dX9_parse_103 : decode cX9_parse 103 = .ok (.iconst 1, 1) := dk_4 (dk_at dksX9_parse_4 11 rfl rfl)
theorem dX9_parse_104 : decode cX9_parse 104 = .ok (.goto 4, 3) := dk_167 0 4 (dk_at dksX9_parse_4 12 rfl rfl)
theorem dX9_parse_107 : decode cX9_parse 107 = .ok (.iconst 0, 1) := dk_3 (dk_at dksX9_parse_4 15 rfl rfl)
theorem dX9_parse_108 : decode cX9_parse 108 = .ok (.bipush (-2), 2) := dk_16 254 (dk_at dksX9_parse_4 16 rfl rfl)
theorem dX9_parse_110 : decode cX9_parse 110 = .ok (.aload_n 0, 1) := dk_42 (dk_at dksX9_parse_4 18 rfl rfl)
theorem dX9_parse_111 : decode cX9_parse 111 = .ok (.getfield 19, 3) := dk_180 0 19 (dk_at dksX9_parse_4 19 rfl rfl)
theorem dX9_parse_114 : decode cX9_parse 114 = .ok (.invokevirtual 47, 3) := dk_182 0 47 (dk_at dksX9_parse_5 0 rfl rfl)
theorem dX9_parse_117 : decode cX9_parse 117 = .ok (.new 237, 3) := dk_187 0 237 (dk_at dksX9_parse_5 3 rfl rfl)
theorem dX9_parse_120 : decode cX9_parse 120 = .ok (.dup, 1) := dk_89 (dk_at dksX9_parse_5 6 rfl rfl)
theorem dX9_parse_121 : decode cX9_parse 121 = .ok (.aload_n 0, 1) := dk_42 (dk_at dksX9_parse_5 7 rfl rfl)
theorem dX9_parse_122 : decode cX9_parse 122 = .ok (.getfield 140, 3) := dk_180 0 140 (dk_at dksX9_parse_5 8 rfl rfl)
theorem dX9_parse_125 : decode cX9_parse 125 = .ok (.invokespecial 239, 3) := dk_183 0 239 (dk_at dksX9_parse_5 11 rfl rfl)
theorem dX9_parse_128 : decode cX9_parse 128 = .ok (.astore_n 3, 1) := dk_78 (dk_at dksX9_parse_5 14 rfl rfl)
theorem dX9_parse_129 : decode cX9_parse 129 = .ok (.aload_n 0, 1) := dk_42 (dk_at dksX9_parse_5 15 rfl rfl)
theorem dX9_parse_130 : decode cX9_parse 130 = .ok (.getfield 15, 3) := dk_180 0 15 (dk_at dksX9_parse_5 16 rfl rfl)
theorem dX9_parse_133 : decode cX9_parse 133 = .ok (.iconst 0, 1) := dk_3 (dk_at dksX9_parse_5 19 rfl rfl)
theorem dX9_parse_134 : decode cX9_parse 134 = .ok (.aload_n 3, 1) := dk_45 (dk_at dksX9_parse_5 20 rfl rfl)
theorem dX9_parse_135 : decode cX9_parse 135 = .ok (.getfield 242, 3) := dk_180 0 242 (dk_at dksX9_parse_5 21 rfl rfl)
theorem dX9_parse_138 : decode cX9_parse 138 = .ok (.iconst 0, 1) := dk_3 (dk_at dksX9_parse_6 0 rfl rfl)
theorem dX9_parse_139 : decode cX9_parse 139 = .ok (.bipush 36, 2) := dk_16 36 (dk_at dksX9_parse_6 1 rfl rfl)
theorem dX9_parse_141 : decode cX9_parse 141 = .ok (.invokestatic 243, 3) := dk_184 0 243 (dk_at dksX9_parse_6 3 rfl rfl)
theorem dX9_parse_144 : decode cX9_parse 144 = .ok (.aload_n 3, 1) := dk_45 (dk_at dksX9_parse_6 6 rfl rfl)
theorem dX9_parse_145 : decode cX9_parse 145 = .ok (.invokevirtual 249, 3) := dk_182 0 249 (dk_at dksX9_parse_6 7 rfl rfl)
theorem dX9_parse_148 : decode cX9_parse 148 = .ok (.aload_n 3, 1) := dk_45 (dk_at dksX9_parse_6 10 rfl rfl)
theorem dX9_parse_149 : decode cX9_parse 149 = .ok (.areturn, 1) := dk_176 (dk_at dksX9_parse_6 11 rfl rfl)
abbrev cX9_word : ByteArray := prog_9_method_6_code
def yX9_word : MethodName := ⟨RX9, "word", "()Ljava/lang/String;"⟩
def dkwX9_word_2 : List UInt8 := [43, 182, 0, 62, 176]
abbrev dktX9_word_2 : List UInt8 := dkwX9_word_2 ++ []
def dkwX9_word_1 : List UInt8 := [153, 0, 24, 43, 42, 180, 0, 3, 180, 0, 26, 28, 51, 146, 182, 0, 58, 87, 132, 2, 1, 167, 255, 230]
abbrev dktX9_word_1 : List UInt8 := dkwX9_word_1 ++ dktX9_word_2
def dkwX9_word_0 : List UInt8 := [42, 182, 0, 43, 87, 187, 0, 51, 89, 183, 0, 53, 76, 42, 180, 0, 23, 61, 42, 28, 182, 0, 54]
abbrev dktX9_word_0 : List UInt8 := dkwX9_word_0 ++ dktX9_word_1
theorem dksX9_word_0 : cX9_word.data.toList.drop 0 = dktX9_word_0 := by decide +kernel
theorem dksX9_word_1 : cX9_word.data.toList.drop 23 = dktX9_word_1 := dk_seg dksX9_word_0 23 rfl rfl
theorem dksX9_word_2 : cX9_word.data.toList.drop 47 = dktX9_word_2 := dk_seg dksX9_word_1 24 rfl rfl
theorem dX9_word_0 : decode cX9_word 0 = .ok (.aload_n 0, 1) := dk_42 (dk_at dksX9_word_0 0 rfl rfl)
theorem dX9_word_1 : decode cX9_word 1 = .ok (.invokevirtual 43, 3) := dk_182 0 43 (dk_at dksX9_word_0 1 rfl rfl)
theorem dX9_word_4 : decode cX9_word 4 = .ok (.pop, 1) := dk_87 (dk_at dksX9_word_0 4 rfl rfl)
theorem dX9_word_5 : decode cX9_word 5 = .ok (.new 51, 3) := dk_187 0 51 (dk_at dksX9_word_0 5 rfl rfl)
theorem dX9_word_8 : decode cX9_word 8 = .ok (.dup, 1) := dk_89 (dk_at dksX9_word_0 8 rfl rfl)
theorem dX9_word_9 : decode cX9_word 9 = .ok (.invokespecial 53, 3) := dk_183 0 53 (dk_at dksX9_word_0 9 rfl rfl)
theorem dX9_word_12 : decode cX9_word 12 = .ok (.astore_n 1, 1) := dk_76 (dk_at dksX9_word_0 12 rfl rfl)
theorem dX9_word_13 : decode cX9_word 13 = .ok (.aload_n 0, 1) := dk_42 (dk_at dksX9_word_0 13 rfl rfl)
theorem dX9_word_14 : decode cX9_word 14 = .ok (.getfield 23, 3) := dk_180 0 23 (dk_at dksX9_word_0 14 rfl rfl)
theorem dX9_word_17 : decode cX9_word 17 = .ok (.istore_n 2, 1) := dk_61 (dk_at dksX9_word_0 17 rfl rfl)
theorem dX9_word_18 : decode cX9_word 18 = .ok (.aload_n 0, 1) := dk_42 (dk_at dksX9_word_0 18 rfl rfl)
theorem dX9_word_19 : decode cX9_word 19 = .ok (.iload_n 2, 1) := dk_28 (dk_at dksX9_word_0 19 rfl rfl)
theorem dX9_word_20 : decode cX9_word 20 = .ok (.invokevirtual 54, 3) := dk_182 0 54 (dk_at dksX9_word_0 20 rfl rfl)
theorem dX9_word_23 : decode cX9_word 23 = .ok (.ifCond .eq 24, 3) := dk_153 0 24 (dk_at dksX9_word_1 0 rfl rfl)
theorem dX9_word_26 : decode cX9_word 26 = .ok (.aload_n 1, 1) := dk_43 (dk_at dksX9_word_1 3 rfl rfl)
theorem dX9_word_27 : decode cX9_word 27 = .ok (.aload_n 0, 1) := dk_42 (dk_at dksX9_word_1 4 rfl rfl)
theorem dX9_word_28 : decode cX9_word 28 = .ok (.getfield 3, 3) := dk_180 0 3 (dk_at dksX9_word_1 5 rfl rfl)
theorem dX9_word_31 : decode cX9_word 31 = .ok (.getfield 26, 3) := dk_180 0 26 (dk_at dksX9_word_1 8 rfl rfl)
theorem dX9_word_34 : decode cX9_word 34 = .ok (.iload_n 2, 1) := dk_28 (dk_at dksX9_word_1 11 rfl rfl)
theorem dX9_word_35 : decode cX9_word 35 = .ok (.baload, 1) := dk_51 (dk_at dksX9_word_1 12 rfl rfl)
theorem dX9_word_36 : decode cX9_word 36 = .ok (.i2c, 1) := dk_146 (dk_at dksX9_word_1 13 rfl rfl)
theorem dX9_word_37 : decode cX9_word 37 = .ok (.invokevirtual 58, 3) := dk_182 0 58 (dk_at dksX9_word_1 14 rfl rfl)
theorem dX9_word_40 : decode cX9_word 40 = .ok (.pop, 1) := dk_87 (dk_at dksX9_word_1 17 rfl rfl)
theorem dX9_word_41 : decode cX9_word 41 = .ok (.iinc 2 1, 3) := dk_132 2 1 (dk_at dksX9_word_1 18 rfl rfl)
theorem dX9_word_44 : decode cX9_word 44 = .ok (.goto (-26), 3) := dk_167 255 230 (dk_at dksX9_word_1 21 rfl rfl)
theorem dX9_word_47 : decode cX9_word 47 = .ok (.aload_n 1, 1) := dk_43 (dk_at dksX9_word_2 0 rfl rfl)
theorem dX9_word_48 : decode cX9_word 48 = .ok (.invokevirtual 62, 3) := dk_182 0 62 (dk_at dksX9_word_2 1 rfl rfl)
theorem dX9_word_51 : decode cX9_word 51 = .ok (.areturn, 1) := dk_176 (dk_at dksX9_word_2 4 rfl rfl)
abbrev cX9_peek : ByteArray := prog_9_method_2_code
def yX9_peek : MethodName := ⟨RX9, "peek", "()I"⟩
def dkwX9_peek_3 : List UInt8 := [167, 0, 4, 2, 172]
abbrev dktX9_peek_3 : List UInt8 := dkwX9_peek_3 ++ []
def dkwX9_peek_2 : List UInt8 := [180, 0, 19, 162, 0, 22, 42, 180, 0, 3, 180, 0, 26, 42, 180, 0, 23, 51, 17, 0, 255, 126]
abbrev dktX9_peek_2 : List UInt8 := dkwX9_peek_2 ++ dktX9_peek_3
def dkwX9_peek_1 : List UInt8 := [16, 32, 160, 0, 16, 42, 89, 180, 0, 23, 4, 96, 181, 0, 23, 167, 255, 218, 42, 180, 0, 23, 42]
abbrev dktX9_peek_1 : List UInt8 := dkwX9_peek_1 ++ dktX9_peek_2
def dkwX9_peek_0 : List UInt8 := [42, 180, 0, 23, 42, 180, 0, 19, 162, 0, 33, 42, 180, 0, 3, 180, 0, 26, 42, 180, 0, 23, 51]
abbrev dktX9_peek_0 : List UInt8 := dkwX9_peek_0 ++ dktX9_peek_1
theorem dksX9_peek_0 : cX9_peek.data.toList.drop 0 = dktX9_peek_0 := by decide +kernel
theorem dksX9_peek_1 : cX9_peek.data.toList.drop 23 = dktX9_peek_1 := dk_seg dksX9_peek_0 23 rfl rfl
theorem dksX9_peek_2 : cX9_peek.data.toList.drop 46 = dktX9_peek_2 := dk_seg dksX9_peek_1 23 rfl rfl
theorem dksX9_peek_3 : cX9_peek.data.toList.drop 68 = dktX9_peek_3 := dk_seg dksX9_peek_2 22 rfl rfl
theorem dX9_peek_0 : decode cX9_peek 0 = .ok (.aload_n 0, 1) := dk_42 (dk_at dksX9_peek_0 0 rfl rfl)
theorem dX9_peek_1 : decode cX9_peek 1 = .ok (.getfield 23, 3) := dk_180 0 23 (dk_at dksX9_peek_0 1 rfl rfl)
theorem dX9_peek_4 : decode cX9_peek 4 = .ok (.aload_n 0, 1) := dk_42 (dk_at dksX9_peek_0 4 rfl rfl)
theorem dX9_peek_5 : decode cX9_peek 5 = .ok (.getfield 19, 3) := dk_180 0 19 (dk_at dksX9_peek_0 5 rfl rfl)
theorem dX9_peek_8 : decode cX9_peek 8 = .ok (.if_icmp .ge 33, 3) := dk_162 0 33 (dk_at dksX9_peek_0 8 rfl rfl)
theorem dX9_peek_11 : decode cX9_peek 11 = .ok (.aload_n 0, 1) := dk_42 (dk_at dksX9_peek_0 11 rfl rfl)
theorem dX9_peek_12 : decode cX9_peek 12 = .ok (.getfield 3, 3) := dk_180 0 3 (dk_at dksX9_peek_0 12 rfl rfl)
theorem dX9_peek_15 : decode cX9_peek 15 = .ok (.getfield 26, 3) := dk_180 0 26 (dk_at dksX9_peek_0 15 rfl rfl)
theorem dX9_peek_18 : decode cX9_peek 18 = .ok (.aload_n 0, 1) := dk_42 (dk_at dksX9_peek_0 18 rfl rfl)
theorem dX9_peek_19 : decode cX9_peek 19 = .ok (.getfield 23, 3) := dk_180 0 23 (dk_at dksX9_peek_0 19 rfl rfl)
theorem dX9_peek_22 : decode cX9_peek 22 = .ok (.baload, 1) := dk_51 (dk_at dksX9_peek_0 22 rfl rfl)
theorem dX9_peek_23 : decode cX9_peek 23 = .ok (.bipush 32, 2) := dk_16 32 (dk_at dksX9_peek_1 0 rfl rfl)
theorem dX9_peek_25 : decode cX9_peek 25 = .ok (.if_icmp .ne 16, 3) := dk_160 0 16 (dk_at dksX9_peek_1 2 rfl rfl)
theorem dX9_peek_28 : decode cX9_peek 28 = .ok (.aload_n 0, 1) := dk_42 (dk_at dksX9_peek_1 5 rfl rfl)
theorem dX9_peek_29 : decode cX9_peek 29 = .ok (.dup, 1) := dk_89 (dk_at dksX9_peek_1 6 rfl rfl)
theorem dX9_peek_30 : decode cX9_peek 30 = .ok (.getfield 23, 3) := dk_180 0 23 (dk_at dksX9_peek_1 7 rfl rfl)
theorem dX9_peek_33 : decode cX9_peek 33 = .ok (.iconst 1, 1) := dk_4 (dk_at dksX9_peek_1 10 rfl rfl)
theorem dX9_peek_34 : decode cX9_peek 34 = .ok (.iadd, 1) := dk_96 (dk_at dksX9_peek_1 11 rfl rfl)
theorem dX9_peek_35 : decode cX9_peek 35 = .ok (.putfield 23, 3) := dk_181 0 23 (dk_at dksX9_peek_1 12 rfl rfl)
theorem dX9_peek_38 : decode cX9_peek 38 = .ok (.goto (-38), 3) := dk_167 255 218 (dk_at dksX9_peek_1 15 rfl rfl)
theorem dX9_peek_41 : decode cX9_peek 41 = .ok (.aload_n 0, 1) := dk_42 (dk_at dksX9_peek_1 18 rfl rfl)
theorem dX9_peek_42 : decode cX9_peek 42 = .ok (.getfield 23, 3) := dk_180 0 23 (dk_at dksX9_peek_1 19 rfl rfl)
theorem dX9_peek_45 : decode cX9_peek 45 = .ok (.aload_n 0, 1) := dk_42 (dk_at dksX9_peek_1 22 rfl rfl)
theorem dX9_peek_46 : decode cX9_peek 46 = .ok (.getfield 19, 3) := dk_180 0 19 (dk_at dksX9_peek_2 0 rfl rfl)
theorem dX9_peek_49 : decode cX9_peek 49 = .ok (.if_icmp .ge 22, 3) := dk_162 0 22 (dk_at dksX9_peek_2 3 rfl rfl)
theorem dX9_peek_52 : decode cX9_peek 52 = .ok (.aload_n 0, 1) := dk_42 (dk_at dksX9_peek_2 6 rfl rfl)
theorem dX9_peek_53 : decode cX9_peek 53 = .ok (.getfield 3, 3) := dk_180 0 3 (dk_at dksX9_peek_2 7 rfl rfl)
theorem dX9_peek_56 : decode cX9_peek 56 = .ok (.getfield 26, 3) := dk_180 0 26 (dk_at dksX9_peek_2 10 rfl rfl)
theorem dX9_peek_59 : decode cX9_peek 59 = .ok (.aload_n 0, 1) := dk_42 (dk_at dksX9_peek_2 13 rfl rfl)
theorem dX9_peek_60 : decode cX9_peek 60 = .ok (.getfield 23, 3) := dk_180 0 23 (dk_at dksX9_peek_2 14 rfl rfl)
theorem dX9_peek_63 : decode cX9_peek 63 = .ok (.baload, 1) := dk_51 (dk_at dksX9_peek_2 17 rfl rfl)
theorem dX9_peek_64 : decode cX9_peek 64 = .ok (.sipush 255, 3) := dk_17 0 255 (dk_at dksX9_peek_2 18 rfl rfl)
theorem dX9_peek_67 : decode cX9_peek 67 = .ok (.iand, 1) := dk_126 (dk_at dksX9_peek_2 21 rfl rfl)
theorem dX9_peek_68 : decode cX9_peek 68 = .ok (.goto 4, 3) := dk_167 0 4 (dk_at dksX9_peek_3 0 rfl rfl)
theorem dX9_peek_71 : decode cX9_peek 71 = .ok (.iconst (-1), 1) := dk_2 (dk_at dksX9_peek_3 3 rfl rfl)
theorem dX9_peek_72 : decode cX9_peek 72 = .ok (.ireturn, 1) := dk_172 (dk_at dksX9_peek_3 4 rfl rfl)
abbrev cX9_isLetterAt : ByteArray := prog_9_method_3_code
def yX9_isLetterAt : MethodName := ⟨RX9, "isLetterAt", "(I)Z"⟩
def dkwX9_isLetterAt_1 : List UInt8 := [184, 0, 34, 153, 0, 7, 4, 167, 0, 4, 3, 172]
abbrev dktX9_isLetterAt_1 : List UInt8 := dkwX9_isLetterAt_1 ++ []
def dkwX9_isLetterAt_0 : List UInt8 := [27, 42, 180, 0, 19, 162, 0, 29, 42, 180, 0, 3, 180, 0, 26, 27, 51, 133, 20, 0, 30, 20, 0, 32]
abbrev dktX9_isLetterAt_0 : List UInt8 := dkwX9_isLetterAt_0 ++ dktX9_isLetterAt_1
theorem dksX9_isLetterAt_0 : cX9_isLetterAt.data.toList.drop 0 = dktX9_isLetterAt_0 := by decide +kernel
theorem dksX9_isLetterAt_1 : cX9_isLetterAt.data.toList.drop 24 = dktX9_isLetterAt_1 := dk_seg dksX9_isLetterAt_0 24 rfl rfl
theorem dX9_isLetterAt_0 : decode cX9_isLetterAt 0 = .ok (.iload_n 1, 1) := dk_27 (dk_at dksX9_isLetterAt_0 0 rfl rfl)
theorem dX9_isLetterAt_1 : decode cX9_isLetterAt 1 = .ok (.aload_n 0, 1) := dk_42 (dk_at dksX9_isLetterAt_0 1 rfl rfl)
theorem dX9_isLetterAt_2 : decode cX9_isLetterAt 2 = .ok (.getfield 19, 3) := dk_180 0 19 (dk_at dksX9_isLetterAt_0 2 rfl rfl)
theorem dX9_isLetterAt_5 : decode cX9_isLetterAt 5 = .ok (.if_icmp .ge 29, 3) := dk_162 0 29 (dk_at dksX9_isLetterAt_0 5 rfl rfl)
theorem dX9_isLetterAt_8 : decode cX9_isLetterAt 8 = .ok (.aload_n 0, 1) := dk_42 (dk_at dksX9_isLetterAt_0 8 rfl rfl)
theorem dX9_isLetterAt_9 : decode cX9_isLetterAt 9 = .ok (.getfield 3, 3) := dk_180 0 3 (dk_at dksX9_isLetterAt_0 9 rfl rfl)
theorem dX9_isLetterAt_12 : decode cX9_isLetterAt 12 = .ok (.getfield 26, 3) := dk_180 0 26 (dk_at dksX9_isLetterAt_0 12 rfl rfl)
theorem dX9_isLetterAt_15 : decode cX9_isLetterAt 15 = .ok (.iload_n 1, 1) := dk_27 (dk_at dksX9_isLetterAt_0 15 rfl rfl)
theorem dX9_isLetterAt_16 : decode cX9_isLetterAt 16 = .ok (.baload, 1) := dk_51 (dk_at dksX9_isLetterAt_0 16 rfl rfl)
theorem dX9_isLetterAt_17 : decode cX9_isLetterAt 17 = .ok (.i2l, 1) := dk_133 (dk_at dksX9_isLetterAt_0 17 rfl rfl)
theorem dX9_isLetterAt_18 : decode cX9_isLetterAt 18 = .ok (.ldc2_w 30, 3) := dk_20 0 30 (dk_at dksX9_isLetterAt_0 18 rfl rfl)
theorem dX9_isLetterAt_21 : decode cX9_isLetterAt 21 = .ok (.ldc2_w 32, 3) := dk_20 0 32 (dk_at dksX9_isLetterAt_0 21 rfl rfl)
theorem dX9_isLetterAt_24 : decode cX9_isLetterAt 24 = .ok (.invokestatic 34, 3) := dk_184 0 34 (dk_at dksX9_isLetterAt_1 0 rfl rfl)
theorem dX9_isLetterAt_27 : decode cX9_isLetterAt 27 = .ok (.ifCond .eq 7, 3) := dk_153 0 7 (dk_at dksX9_isLetterAt_1 3 rfl rfl)
theorem dX9_isLetterAt_30 : decode cX9_isLetterAt 30 = .ok (.iconst 1, 1) := dk_4 (dk_at dksX9_isLetterAt_1 6 rfl rfl)
theorem dX9_isLetterAt_31 : decode cX9_isLetterAt 31 = .ok (.goto 4, 3) := dk_167 0 4 (dk_at dksX9_isLetterAt_1 7 rfl rfl)
theorem dX9_isLetterAt_34 : decode cX9_isLetterAt 34 = .ok (.iconst 0, 1) := dk_3 (dk_at dksX9_isLetterAt_1 10 rfl rfl)
theorem dX9_isLetterAt_35 : decode cX9_isLetterAt 35 = .ok (.ireturn, 1) := dk_172 (dk_at dksX9_isLetterAt_1 11 rfl rfl)
abbrev cX9_require : ByteArray := prog_9_method_4_code
def yX9_require : MethodName := ⟨RX9, "require", "(ZII)V"⟩
def dkwX9_require_0 : List UInt8 := [27, 154, 0, 13, 187, 0, 38, 89, 28, 29, 183, 0, 40, 191, 177]
abbrev dktX9_require_0 : List UInt8 := dkwX9_require_0 ++ []
theorem dksX9_require_0 : cX9_require.data.toList.drop 0 = dktX9_require_0 := by decide +kernel
theorem dX9_require_0 : decode cX9_require 0 = .ok (.iload_n 1, 1) := dk_27 (dk_at dksX9_require_0 0 rfl rfl)
theorem dX9_require_1 : decode cX9_require 1 = .ok (.ifCond .ne 13, 3) := dk_154 0 13 (dk_at dksX9_require_0 1 rfl rfl)
theorem dX9_require_4 : decode cX9_require 4 = .ok (.new 38, 3) := dk_187 0 38 (dk_at dksX9_require_0 4 rfl rfl)
theorem dX9_require_7 : decode cX9_require 7 = .ok (.dup, 1) := dk_89 (dk_at dksX9_require_0 7 rfl rfl)
theorem dX9_require_8 : decode cX9_require 8 = .ok (.iload_n 2, 1) := dk_28 (dk_at dksX9_require_0 8 rfl rfl)
theorem dX9_require_9 : decode cX9_require 9 = .ok (.iload_n 3, 1) := dk_29 (dk_at dksX9_require_0 9 rfl rfl)
theorem dX9_require_10 : decode cX9_require 10 = .ok (.invokespecial 40, 3) := dk_183 0 40 (dk_at dksX9_require_0 10 rfl rfl)
theorem dX9_require_13 : decode cX9_require 13 = .ok (.athrow, 1) := dk_191 (dk_at dksX9_require_0 13 rfl rfl)
theorem dX9_require_14 : decode cX9_require 14 = .ok (.return_, 1) := dk_177 (dk_at dksX9_require_0 14 rfl rfl)
abbrev cX9_number : ByteArray := prog_9_method_7_code
def yX9_number : MethodName := ⟨RX9, "number", "(II)I"⟩
def dkwX9_number_5 : List UInt8 := [21, 4, 133, 27, 133, 28, 133, 184, 0, 34, 16, 253, 42, 180, 0, 70, 182, 0, 47, 21, 4, 172]
abbrev dktX9_number_5 : List UInt8 := dkwX9_number_5 ++ []
def dkwX9_number_4 : List UInt8 := [51, 96, 16, 48, 100, 184, 0, 74, 54, 4, 42, 89, 180, 0, 23, 4, 96, 181, 0, 23, 167, 255, 182, 42]
abbrev dktX9_number_4 : List UInt8 := dkwX9_number_4 ++ dktX9_number_5
def dkwX9_number_3 : List UInt8 := [184, 0, 34, 153, 0, 44, 18, 73, 16, 10, 21, 4, 104, 42, 180, 0, 3, 180, 0, 26, 42, 180, 0, 23]
abbrev dktX9_number_3 : List UInt8 := dkwX9_number_3 ++ dktX9_number_4
def dkwX9_number_2 : List UInt8 := [162, 0, 69, 42, 180, 0, 3, 180, 0, 26, 42, 180, 0, 23, 51, 133, 20, 0, 66, 20, 0, 68]
abbrev dktX9_number_2 : List UInt8 := dkwX9_number_2 ++ dktX9_number_3
def dkwX9_number_1 : List UInt8 := [182, 0, 47, 42, 42, 180, 0, 23, 181, 0, 70, 3, 54, 4, 42, 180, 0, 23, 42, 180, 0, 19]
abbrev dktX9_number_1 : List UInt8 := dkwX9_number_1 ++ dktX9_number_2
def dkwX9_number_0 : List UInt8 := [42, 182, 0, 43, 133, 20, 0, 66, 20, 0, 68, 184, 0, 34, 62, 42, 29, 16, 254, 42, 180, 0, 23]
abbrev dktX9_number_0 : List UInt8 := dkwX9_number_0 ++ dktX9_number_1
theorem dksX9_number_0 : cX9_number.data.toList.drop 0 = dktX9_number_0 := by decide +kernel
theorem dksX9_number_1 : cX9_number.data.toList.drop 23 = dktX9_number_1 := dk_seg dksX9_number_0 23 rfl rfl
theorem dksX9_number_2 : cX9_number.data.toList.drop 45 = dktX9_number_2 := dk_seg dksX9_number_1 22 rfl rfl
theorem dksX9_number_3 : cX9_number.data.toList.drop 67 = dktX9_number_3 := dk_seg dksX9_number_2 22 rfl rfl
theorem dksX9_number_4 : cX9_number.data.toList.drop 91 = dktX9_number_4 := dk_seg dksX9_number_3 24 rfl rfl
theorem dksX9_number_5 : cX9_number.data.toList.drop 115 = dktX9_number_5 := dk_seg dksX9_number_4 24 rfl rfl
theorem dX9_number_0 : decode cX9_number 0 = .ok (.aload_n 0, 1) := dk_42 (dk_at dksX9_number_0 0 rfl rfl)
theorem dX9_number_1 : decode cX9_number 1 = .ok (.invokevirtual 43, 3) := dk_182 0 43 (dk_at dksX9_number_0 1 rfl rfl)
theorem dX9_number_4 : decode cX9_number 4 = .ok (.i2l, 1) := dk_133 (dk_at dksX9_number_0 4 rfl rfl)
theorem dX9_number_5 : decode cX9_number 5 = .ok (.ldc2_w 66, 3) := dk_20 0 66 (dk_at dksX9_number_0 5 rfl rfl)
theorem dX9_number_8 : decode cX9_number 8 = .ok (.ldc2_w 68, 3) := dk_20 0 68 (dk_at dksX9_number_0 8 rfl rfl)
theorem dX9_number_11 : decode cX9_number 11 = .ok (.invokestatic 34, 3) := dk_184 0 34 (dk_at dksX9_number_0 11 rfl rfl)
theorem dX9_number_14 : decode cX9_number 14 = .ok (.istore_n 3, 1) := dk_62 (dk_at dksX9_number_0 14 rfl rfl)
theorem dX9_number_15 : decode cX9_number 15 = .ok (.aload_n 0, 1) := dk_42 (dk_at dksX9_number_0 15 rfl rfl)
theorem dX9_number_16 : decode cX9_number 16 = .ok (.iload_n 3, 1) := dk_29 (dk_at dksX9_number_0 16 rfl rfl)
theorem dX9_number_17 : decode cX9_number 17 = .ok (.bipush (-2), 2) := dk_16 254 (dk_at dksX9_number_0 17 rfl rfl)
theorem dX9_number_19 : decode cX9_number 19 = .ok (.aload_n 0, 1) := dk_42 (dk_at dksX9_number_0 19 rfl rfl)
theorem dX9_number_20 : decode cX9_number 20 = .ok (.getfield 23, 3) := dk_180 0 23 (dk_at dksX9_number_0 20 rfl rfl)
theorem dX9_number_23 : decode cX9_number 23 = .ok (.invokevirtual 47, 3) := dk_182 0 47 (dk_at dksX9_number_1 0 rfl rfl)
theorem dX9_number_26 : decode cX9_number 26 = .ok (.aload_n 0, 1) := dk_42 (dk_at dksX9_number_1 3 rfl rfl)
theorem dX9_number_27 : decode cX9_number 27 = .ok (.aload_n 0, 1) := dk_42 (dk_at dksX9_number_1 4 rfl rfl)
theorem dX9_number_28 : decode cX9_number 28 = .ok (.getfield 23, 3) := dk_180 0 23 (dk_at dksX9_number_1 5 rfl rfl)
theorem dX9_number_31 : decode cX9_number 31 = .ok (.putfield 70, 3) := dk_181 0 70 (dk_at dksX9_number_1 8 rfl rfl)
theorem dX9_number_34 : decode cX9_number 34 = .ok (.iconst 0, 1) := dk_3 (dk_at dksX9_number_1 11 rfl rfl)
theorem dX9_number_35 : decode cX9_number 35 = .ok (.istore 4, 2) := dk_54 4 (dk_at dksX9_number_1 12 rfl rfl)
theorem dX9_number_37 : decode cX9_number 37 = .ok (.aload_n 0, 1) := dk_42 (dk_at dksX9_number_1 14 rfl rfl)
theorem dX9_number_38 : decode cX9_number 38 = .ok (.getfield 23, 3) := dk_180 0 23 (dk_at dksX9_number_1 15 rfl rfl)
theorem dX9_number_41 : decode cX9_number 41 = .ok (.aload_n 0, 1) := dk_42 (dk_at dksX9_number_1 18 rfl rfl)
theorem dX9_number_42 : decode cX9_number 42 = .ok (.getfield 19, 3) := dk_180 0 19 (dk_at dksX9_number_1 19 rfl rfl)
theorem dX9_number_45 : decode cX9_number 45 = .ok (.if_icmp .ge 69, 3) := dk_162 0 69 (dk_at dksX9_number_2 0 rfl rfl)
theorem dX9_number_48 : decode cX9_number 48 = .ok (.aload_n 0, 1) := dk_42 (dk_at dksX9_number_2 3 rfl rfl)
theorem dX9_number_49 : decode cX9_number 49 = .ok (.getfield 3, 3) := dk_180 0 3 (dk_at dksX9_number_2 4 rfl rfl)
theorem dX9_number_52 : decode cX9_number 52 = .ok (.getfield 26, 3) := dk_180 0 26 (dk_at dksX9_number_2 7 rfl rfl)
theorem dX9_number_55 : decode cX9_number 55 = .ok (.aload_n 0, 1) := dk_42 (dk_at dksX9_number_2 10 rfl rfl)
theorem dX9_number_56 : decode cX9_number 56 = .ok (.getfield 23, 3) := dk_180 0 23 (dk_at dksX9_number_2 11 rfl rfl)
theorem dX9_number_59 : decode cX9_number 59 = .ok (.baload, 1) := dk_51 (dk_at dksX9_number_2 14 rfl rfl)
theorem dX9_number_60 : decode cX9_number 60 = .ok (.i2l, 1) := dk_133 (dk_at dksX9_number_2 15 rfl rfl)
theorem dX9_number_61 : decode cX9_number 61 = .ok (.ldc2_w 66, 3) := dk_20 0 66 (dk_at dksX9_number_2 16 rfl rfl)
theorem dX9_number_64 : decode cX9_number 64 = .ok (.ldc2_w 68, 3) := dk_20 0 68 (dk_at dksX9_number_2 19 rfl rfl)
theorem dX9_number_67 : decode cX9_number 67 = .ok (.invokestatic 34, 3) := dk_184 0 34 (dk_at dksX9_number_3 0 rfl rfl)
theorem dX9_number_70 : decode cX9_number 70 = .ok (.ifCond .eq 44, 3) := dk_153 0 44 (dk_at dksX9_number_3 3 rfl rfl)
theorem dX9_number_73 : decode cX9_number 73 = .ok (.ldc 73, 2) := dk_18 73 (dk_at dksX9_number_3 6 rfl rfl)
theorem dX9_number_75 : decode cX9_number 75 = .ok (.bipush 10, 2) := dk_16 10 (dk_at dksX9_number_3 8 rfl rfl)
theorem dX9_number_77 : decode cX9_number 77 = .ok (.iload 4, 2) := dk_21 4 (dk_at dksX9_number_3 10 rfl rfl)
theorem dX9_number_79 : decode cX9_number 79 = .ok (.imul, 1) := dk_104 (dk_at dksX9_number_3 12 rfl rfl)
theorem dX9_number_80 : decode cX9_number 80 = .ok (.aload_n 0, 1) := dk_42 (dk_at dksX9_number_3 13 rfl rfl)
theorem dX9_number_81 : decode cX9_number 81 = .ok (.getfield 3, 3) := dk_180 0 3 (dk_at dksX9_number_3 14 rfl rfl)
theorem dX9_number_84 : decode cX9_number 84 = .ok (.getfield 26, 3) := dk_180 0 26 (dk_at dksX9_number_3 17 rfl rfl)
theorem dX9_number_87 : decode cX9_number 87 = .ok (.aload_n 0, 1) := dk_42 (dk_at dksX9_number_3 20 rfl rfl)
theorem dX9_number_88 : decode cX9_number 88 = .ok (.getfield 23, 3) := dk_180 0 23 (dk_at dksX9_number_3 21 rfl rfl)
theorem dX9_number_91 : decode cX9_number 91 = .ok (.baload, 1) := dk_51 (dk_at dksX9_number_4 0 rfl rfl)
theorem dX9_number_92 : decode cX9_number 92 = .ok (.iadd, 1) := dk_96 (dk_at dksX9_number_4 1 rfl rfl)
theorem dX9_number_93 : decode cX9_number 93 = .ok (.bipush 48, 2) := dk_16 48 (dk_at dksX9_number_4 2 rfl rfl)
theorem dX9_number_95 : decode cX9_number 95 = .ok (.isub, 1) := dk_100 (dk_at dksX9_number_4 4 rfl rfl)
theorem dX9_number_96 : decode cX9_number 96 = .ok (.invokestatic 74, 3) := dk_184 0 74 (dk_at dksX9_number_4 5 rfl rfl)
theorem dX9_number_99 : decode cX9_number 99 = .ok (.istore 4, 2) := dk_54 4 (dk_at dksX9_number_4 8 rfl rfl)
theorem dX9_number_101 : decode cX9_number 101 = .ok (.aload_n 0, 1) := dk_42 (dk_at dksX9_number_4 10 rfl rfl)
theorem dX9_number_102 : decode cX9_number 102 = .ok (.dup, 1) := dk_89 (dk_at dksX9_number_4 11 rfl rfl)
theorem dX9_number_103 : decode cX9_number 103 = .ok (.getfield 23, 3) := dk_180 0 23 (dk_at dksX9_number_4 12 rfl rfl)
theorem dX9_number_106 : decode cX9_number 106 = .ok (.iconst 1, 1) := dk_4 (dk_at dksX9_number_4 15 rfl rfl)
theorem dX9_number_107 : decode cX9_number 107 = .ok (.iadd, 1) := dk_96 (dk_at dksX9_number_4 16 rfl rfl)
theorem dX9_number_108 : decode cX9_number 108 = .ok (.putfield 23, 3) := dk_181 0 23 (dk_at dksX9_number_4 17 rfl rfl)
theorem dX9_number_111 : decode cX9_number 111 = .ok (.goto (-74), 3) := dk_167 255 182 (dk_at dksX9_number_4 20 rfl rfl)
theorem dX9_number_114 : decode cX9_number 114 = .ok (.aload_n 0, 1) := dk_42 (dk_at dksX9_number_4 23 rfl rfl)
theorem dX9_number_115 : decode cX9_number 115 = .ok (.iload 4, 2) := dk_21 4 (dk_at dksX9_number_5 0 rfl rfl)
theorem dX9_number_117 : decode cX9_number 117 = .ok (.i2l, 1) := dk_133 (dk_at dksX9_number_5 2 rfl rfl)
theorem dX9_number_118 : decode cX9_number 118 = .ok (.iload_n 1, 1) := dk_27 (dk_at dksX9_number_5 3 rfl rfl)
theorem dX9_number_119 : decode cX9_number 119 = .ok (.i2l, 1) := dk_133 (dk_at dksX9_number_5 4 rfl rfl)
theorem dX9_number_120 : decode cX9_number 120 = .ok (.iload_n 2, 1) := dk_28 (dk_at dksX9_number_5 5 rfl rfl)
theorem dX9_number_121 : decode cX9_number 121 = .ok (.i2l, 1) := dk_133 (dk_at dksX9_number_5 6 rfl rfl)
theorem dX9_number_122 : decode cX9_number 122 = .ok (.invokestatic 34, 3) := dk_184 0 34 (dk_at dksX9_number_5 7 rfl rfl)
theorem dX9_number_125 : decode cX9_number 125 = .ok (.bipush (-3), 2) := dk_16 253 (dk_at dksX9_number_5 10 rfl rfl)
theorem dX9_number_127 : decode cX9_number 127 = .ok (.aload_n 0, 1) := dk_42 (dk_at dksX9_number_5 12 rfl rfl)
theorem dX9_number_128 : decode cX9_number 128 = .ok (.getfield 70, 3) := dk_180 0 70 (dk_at dksX9_number_5 13 rfl rfl)
theorem dX9_number_131 : decode cX9_number 131 = .ok (.invokevirtual 47, 3) := dk_182 0 47 (dk_at dksX9_number_5 16 rfl rfl)
theorem dX9_number_134 : decode cX9_number 134 = .ok (.iload 4, 2) := dk_21 4 (dk_at dksX9_number_5 19 rfl rfl)
theorem dX9_number_136 : decode cX9_number 136 = .ok (.ireturn, 1) := dk_172 (dk_at dksX9_number_5 21 rfl rfl)
abbrev cX9_expect : ByteArray := prog_9_method_5_code
def yX9_expect : MethodName := ⟨RX9, "expect", "(I)V"⟩
def dkwX9_expect_1 : List UInt8 := [182, 0, 47, 42, 89, 180, 0, 23, 4, 96, 181, 0, 23, 177]
abbrev dktX9_expect_1 : List UInt8 := dkwX9_expect_1 ++ []
def dkwX9_expect_0 : List UInt8 := [42, 182, 0, 43, 27, 160, 0, 7, 4, 167, 0, 4, 3, 61, 42, 28, 16, 254, 42, 180, 0, 23]
abbrev dktX9_expect_0 : List UInt8 := dkwX9_expect_0 ++ dktX9_expect_1
theorem dksX9_expect_0 : cX9_expect.data.toList.drop 0 = dktX9_expect_0 := by decide +kernel
theorem dksX9_expect_1 : cX9_expect.data.toList.drop 22 = dktX9_expect_1 := dk_seg dksX9_expect_0 22 rfl rfl
theorem dX9_expect_0 : decode cX9_expect 0 = .ok (.aload_n 0, 1) := dk_42 (dk_at dksX9_expect_0 0 rfl rfl)
theorem dX9_expect_1 : decode cX9_expect 1 = .ok (.invokevirtual 43, 3) := dk_182 0 43 (dk_at dksX9_expect_0 1 rfl rfl)
theorem dX9_expect_4 : decode cX9_expect 4 = .ok (.iload_n 1, 1) := dk_27 (dk_at dksX9_expect_0 4 rfl rfl)
theorem dX9_expect_5 : decode cX9_expect 5 = .ok (.if_icmp .ne 7, 3) := dk_160 0 7 (dk_at dksX9_expect_0 5 rfl rfl)
theorem dX9_expect_8 : decode cX9_expect 8 = .ok (.iconst 1, 1) := dk_4 (dk_at dksX9_expect_0 8 rfl rfl)
theorem dX9_expect_9 : decode cX9_expect 9 = .ok (.goto 4, 3) := dk_167 0 4 (dk_at dksX9_expect_0 9 rfl rfl)
theorem dX9_expect_12 : decode cX9_expect 12 = .ok (.iconst 0, 1) := dk_3 (dk_at dksX9_expect_0 12 rfl rfl)
theorem dX9_expect_13 : decode cX9_expect 13 = .ok (.istore_n 2, 1) := dk_61 (dk_at dksX9_expect_0 13 rfl rfl)
theorem dX9_expect_14 : decode cX9_expect 14 = .ok (.aload_n 0, 1) := dk_42 (dk_at dksX9_expect_0 14 rfl rfl)
theorem dX9_expect_15 : decode cX9_expect 15 = .ok (.iload_n 2, 1) := dk_28 (dk_at dksX9_expect_0 15 rfl rfl)
theorem dX9_expect_16 : decode cX9_expect 16 = .ok (.bipush (-2), 2) := dk_16 254 (dk_at dksX9_expect_0 16 rfl rfl)
theorem dX9_expect_18 : decode cX9_expect 18 = .ok (.aload_n 0, 1) := dk_42 (dk_at dksX9_expect_0 18 rfl rfl)
theorem dX9_expect_19 : decode cX9_expect 19 = .ok (.getfield 23, 3) := dk_180 0 23 (dk_at dksX9_expect_0 19 rfl rfl)
theorem dX9_expect_22 : decode cX9_expect 22 = .ok (.invokevirtual 47, 3) := dk_182 0 47 (dk_at dksX9_expect_1 0 rfl rfl)
theorem dX9_expect_25 : decode cX9_expect 25 = .ok (.aload_n 0, 1) := dk_42 (dk_at dksX9_expect_1 3 rfl rfl)
theorem dX9_expect_26 : decode cX9_expect 26 = .ok (.dup, 1) := dk_89 (dk_at dksX9_expect_1 4 rfl rfl)
theorem dX9_expect_27 : decode cX9_expect 27 = .ok (.getfield 23, 3) := dk_180 0 23 (dk_at dksX9_expect_1 5 rfl rfl)
theorem dX9_expect_30 : decode cX9_expect 30 = .ok (.iconst 1, 1) := dk_4 (dk_at dksX9_expect_1 8 rfl rfl)
theorem dX9_expect_31 : decode cX9_expect 31 = .ok (.iadd, 1) := dk_96 (dk_at dksX9_expect_1 9 rfl rfl)
theorem dX9_expect_32 : decode cX9_expect 32 = .ok (.putfield 23, 3) := dk_181 0 23 (dk_at dksX9_expect_1 10 rfl rfl)
theorem dX9_expect_35 : decode cX9_expect 35 = .ok (.return_, 1) := dk_177 (dk_at dksX9_expect_1 13 rfl rfl)
abbrev cX9_statement : ByteArray := prog_9_method_13_code
def yX9_statement : MethodName := ⟨RX9, "statement", "()V"⟩
def dkwX9_statement_12 : List UInt8 := [183, 0, 40, 191, 42, 16, 59, 182, 0, 98, 177]
abbrev dktX9_statement_12 : List UInt8 := dkwX9_statement_12 ++ []
def dkwX9_statement_11 : List UInt8 := [181, 0, 218, 42, 180, 0, 140, 42, 182, 0, 95, 181, 0, 222, 167, 0, 14, 187, 0, 38, 89, 16, 254, 28]
abbrev dktX9_statement_11 : List UInt8 := dkwX9_statement_11 ++ dktX9_statement_12
def dkwX9_statement_10 : List UInt8 := [167, 0, 52, 42, 42, 180, 0, 218, 154, 0, 7, 4, 167, 0, 4, 3, 16, 254, 28, 182, 0, 47, 42, 4]
abbrev dktX9_statement_10 : List UInt8 := dkwX9_statement_10 ++ dktX9_statement_11
def dkwX9_statement_9 : List UInt8 := [184, 0, 201, 187, 0, 207, 89, 21, 6, 42, 3, 16, 99, 182, 0, 104, 183, 0, 209, 182, 0, 212, 87]
abbrev dktX9_statement_9 : List UInt8 := dkwX9_statement_9 ++ dktX9_statement_10
def dkwX9_statement_8 : List UInt8 := [182, 0, 104, 4, 160, 0, 7, 4, 167, 0, 4, 3, 54, 6, 42, 180, 0, 140, 180, 0, 197, 21, 5]
abbrev dktX9_statement_8 : List UInt8 := dkwX9_statement_8 ++ dktX9_statement_9
def dkwX9_statement_7 : List UInt8 := [16, 252, 28, 182, 0, 47, 42, 182, 0, 195, 167, 0, 110, 42, 182, 0, 172, 54, 5, 42, 3, 4]
abbrev dktX9_statement_7 : List UInt8 := dkwX9_statement_7 ++ dktX9_statement_8
def dkwX9_statement_6 : List UInt8 := [42, 42, 180, 0, 140, 180, 0, 154, 185, 0, 158, 1, 0, 16, 6, 162, 0, 7, 4, 167, 0, 4, 3]
abbrev dktX9_statement_6 : List UInt8 := dkwX9_statement_6 ++ dktX9_statement_7
def dkwX9_statement_5 : List UInt8 := [170, 0, 0, 0, 0, 0, 0, 160, 0, 0, 0, 0, 0, 0, 0, 2, 0, 0, 0, 28, 0, 0, 0, 64, 0, 0, 0, 122]
abbrev dktX9_statement_5 : List UInt8 := dkwX9_statement_5 ++ dktX9_statement_6
def dkwX9_statement_4 : List UInt8 := [4, 54, 4, 167, 0, 15, 45, 18, 193, 182, 0, 166, 153, 0, 6, 5, 54, 4, 21, 4]
abbrev dktX9_statement_4 : List UInt8 := dkwX9_statement_4 ++ dktX9_statement_5
def dkwX9_statement_3 : List UInt8 := [45, 18, 190, 182, 0, 166, 153, 0, 36, 3, 54, 4, 167, 0, 30, 45, 18, 192, 182, 0, 166, 153, 0, 21]
abbrev dktX9_statement_3 : List UInt8 := dkwX9_statement_3 ++ dktX9_statement_4
def dkwX9_statement_2 : List UInt8 := [171, 0, 0, 0, 0, 0, 0, 78, 0, 0, 0, 3, 0, 1, 155, 189, 0, 0, 0, 36, 0, 46, 175, 205, 0, 0, 0, 66, 49, 49, 68, 71, 0, 0, 0, 51]
abbrev dktX9_statement_2 : List UInt8 := dkwX9_statement_2 ++ dktX9_statement_3
def dkwX9_statement_1 : List UInt8 := [78, 2, 54, 4, 45, 182, 0, 187]
abbrev dktX9_statement_1 : List UInt8 := dkwX9_statement_1 ++ dktX9_statement_2
def dkwX9_statement_0 : List UInt8 := [42, 182, 0, 110, 76, 42, 180, 0, 23, 61, 42, 89, 180, 0, 23, 43, 182, 0, 131, 96, 181, 0, 23, 43]
abbrev dktX9_statement_0 : List UInt8 := dkwX9_statement_0 ++ dktX9_statement_1
theorem dksX9_statement_0 : cX9_statement.data.toList.drop 0 = dktX9_statement_0 := by decide +kernel
theorem dksX9_statement_1 : cX9_statement.data.toList.drop 24 = dktX9_statement_1 := dk_seg dksX9_statement_0 24 rfl rfl
theorem dksX9_statement_2 : cX9_statement.data.toList.drop 32 = dktX9_statement_2 := dk_seg dksX9_statement_1 8 rfl rfl
theorem dksX9_statement_3 : cX9_statement.data.toList.drop 68 = dktX9_statement_3 := dk_seg dksX9_statement_2 36 rfl rfl
theorem dksX9_statement_4 : cX9_statement.data.toList.drop 92 = dktX9_statement_4 := dk_seg dksX9_statement_3 24 rfl rfl
theorem dksX9_statement_5 : cX9_statement.data.toList.drop 112 = dktX9_statement_5 := dk_seg dksX9_statement_4 20 rfl rfl
theorem dksX9_statement_6 : cX9_statement.data.toList.drop 140 = dktX9_statement_6 := dk_seg dksX9_statement_5 28 rfl rfl
theorem dksX9_statement_7 : cX9_statement.data.toList.drop 163 = dktX9_statement_7 := dk_seg dksX9_statement_6 23 rfl rfl
theorem dksX9_statement_8 : cX9_statement.data.toList.drop 185 = dktX9_statement_8 := dk_seg dksX9_statement_7 22 rfl rfl
theorem dksX9_statement_9 : cX9_statement.data.toList.drop 208 = dktX9_statement_9 := dk_seg dksX9_statement_8 23 rfl rfl
theorem dksX9_statement_10 : cX9_statement.data.toList.drop 231 = dktX9_statement_10 := dk_seg dksX9_statement_9 23 rfl rfl
theorem dksX9_statement_11 : cX9_statement.data.toList.drop 255 = dktX9_statement_11 := dk_seg dksX9_statement_10 24 rfl rfl
theorem dksX9_statement_12 : cX9_statement.data.toList.drop 279 = dktX9_statement_12 := dk_seg dksX9_statement_11 24 rfl rfl
theorem dX9_statement_0 : decode cX9_statement 0 = .ok (.aload_n 0, 1) := dk_42 (dk_at dksX9_statement_0 0 rfl rfl)
theorem dX9_statement_1 : decode cX9_statement 1 = .ok (.invokevirtual 110, 3) := dk_182 0 110 (dk_at dksX9_statement_0 1 rfl rfl)
theorem dX9_statement_4 : decode cX9_statement 4 = .ok (.astore_n 1, 1) := dk_76 (dk_at dksX9_statement_0 4 rfl rfl)
theorem dX9_statement_5 : decode cX9_statement 5 = .ok (.aload_n 0, 1) := dk_42 (dk_at dksX9_statement_0 5 rfl rfl)
theorem dX9_statement_6 : decode cX9_statement 6 = .ok (.getfield 23, 3) := dk_180 0 23 (dk_at dksX9_statement_0 6 rfl rfl)
theorem dX9_statement_9 : decode cX9_statement 9 = .ok (.istore_n 2, 1) := dk_61 (dk_at dksX9_statement_0 9 rfl rfl)
theorem dX9_statement_10 : decode cX9_statement 10 = .ok (.aload_n 0, 1) := dk_42 (dk_at dksX9_statement_0 10 rfl rfl)
theorem dX9_statement_11 : decode cX9_statement 11 = .ok (.dup, 1) := dk_89 (dk_at dksX9_statement_0 11 rfl rfl)
theorem dX9_statement_12 : decode cX9_statement 12 = .ok (.getfield 23, 3) := dk_180 0 23 (dk_at dksX9_statement_0 12 rfl rfl)
theorem dX9_statement_15 : decode cX9_statement 15 = .ok (.aload_n 1, 1) := dk_43 (dk_at dksX9_statement_0 15 rfl rfl)
theorem dX9_statement_16 : decode cX9_statement 16 = .ok (.invokevirtual 131, 3) := dk_182 0 131 (dk_at dksX9_statement_0 16 rfl rfl)
theorem dX9_statement_19 : decode cX9_statement 19 = .ok (.iadd, 1) := dk_96 (dk_at dksX9_statement_0 19 rfl rfl)
theorem dX9_statement_20 : decode cX9_statement 20 = .ok (.putfield 23, 3) := dk_181 0 23 (dk_at dksX9_statement_0 20 rfl rfl)
theorem dX9_statement_23 : decode cX9_statement 23 = .ok (.aload_n 1, 1) := dk_43 (dk_at dksX9_statement_0 23 rfl rfl)
theorem dX9_statement_24 : decode cX9_statement 24 = .ok (.astore_n 3, 1) := dk_78 (dk_at dksX9_statement_1 0 rfl rfl)
theorem dX9_statement_25 : decode cX9_statement 25 = .ok (.iconst (-1), 1) := dk_2 (dk_at dksX9_statement_1 1 rfl rfl)
theorem dX9_statement_26 : decode cX9_statement 26 = .ok (.istore 4, 2) := dk_54 4 (dk_at dksX9_statement_1 2 rfl rfl)
theorem dX9_statement_28 : decode cX9_statement 28 = .ok (.aload_n 3, 1) := dk_45 (dk_at dksX9_statement_1 4 rfl rfl)
theorem dX9_statement_29 : decode cX9_statement 29 = .ok (.invokevirtual 187, 3) := dk_182 0 187 (dk_at dksX9_statement_1 5 rfl rfl)
theorem dX9_statement_32 : decode cX9_statement 32 = .ok (.lookupswitch 78 #[(105405, 36), (3059661, 66), (825312327, 51)], 36) := by decide +kernel
theorem dX9_statement_68 : decode cX9_statement 68 = .ok (.aload_n 3, 1) := dk_45 (dk_at dksX9_statement_3 0 rfl rfl)
theorem dX9_statement_69 : decode cX9_statement 69 = .ok (.ldc 190, 2) := dk_18 190 (dk_at dksX9_statement_3 1 rfl rfl)
theorem dX9_statement_71 : decode cX9_statement 71 = .ok (.invokevirtual 166, 3) := dk_182 0 166 (dk_at dksX9_statement_3 3 rfl rfl)
theorem dX9_statement_74 : decode cX9_statement 74 = .ok (.ifCond .eq 36, 3) := dk_153 0 36 (dk_at dksX9_statement_3 6 rfl rfl)
theorem dX9_statement_77 : decode cX9_statement 77 = .ok (.iconst 0, 1) := dk_3 (dk_at dksX9_statement_3 9 rfl rfl)
theorem dX9_statement_78 : decode cX9_statement 78 = .ok (.istore 4, 2) := dk_54 4 (dk_at dksX9_statement_3 10 rfl rfl)
theorem dX9_statement_80 : decode cX9_statement 80 = .ok (.goto 30, 3) := dk_167 0 30 (dk_at dksX9_statement_3 12 rfl rfl)
theorem dX9_statement_83 : decode cX9_statement 83 = .ok (.aload_n 3, 1) := dk_45 (dk_at dksX9_statement_3 15 rfl rfl)
theorem dX9_statement_84 : decode cX9_statement 84 = .ok (.ldc 192, 2) := dk_18 192 (dk_at dksX9_statement_3 16 rfl rfl)
theorem dX9_statement_86 : decode cX9_statement 86 = .ok (.invokevirtual 166, 3) := dk_182 0 166 (dk_at dksX9_statement_3 18 rfl rfl)
theorem dX9_statement_89 : decode cX9_statement 89 = .ok (.ifCond .eq 21, 3) := dk_153 0 21 (dk_at dksX9_statement_3 21 rfl rfl)
theorem dX9_statement_92 : decode cX9_statement 92 = .ok (.iconst 1, 1) := dk_4 (dk_at dksX9_statement_4 0 rfl rfl)
theorem dX9_statement_93 : decode cX9_statement 93 = .ok (.istore 4, 2) := dk_54 4 (dk_at dksX9_statement_4 1 rfl rfl)
theorem dX9_statement_95 : decode cX9_statement 95 = .ok (.goto 15, 3) := dk_167 0 15 (dk_at dksX9_statement_4 3 rfl rfl)
theorem dX9_statement_98 : decode cX9_statement 98 = .ok (.aload_n 3, 1) := dk_45 (dk_at dksX9_statement_4 6 rfl rfl)
theorem dX9_statement_99 : decode cX9_statement 99 = .ok (.ldc 193, 2) := dk_18 193 (dk_at dksX9_statement_4 7 rfl rfl)
theorem dX9_statement_101 : decode cX9_statement 101 = .ok (.invokevirtual 166, 3) := dk_182 0 166 (dk_at dksX9_statement_4 9 rfl rfl)
theorem dX9_statement_104 : decode cX9_statement 104 = .ok (.ifCond .eq 6, 3) := dk_153 0 6 (dk_at dksX9_statement_4 12 rfl rfl)
theorem dX9_statement_107 : decode cX9_statement 107 = .ok (.iconst 2, 1) := dk_5 (dk_at dksX9_statement_4 15 rfl rfl)
theorem dX9_statement_108 : decode cX9_statement 108 = .ok (.istore 4, 2) := dk_54 4 (dk_at dksX9_statement_4 16 rfl rfl)
theorem dX9_statement_110 : decode cX9_statement 110 = .ok (.iload 4, 2) := dk_21 4 (dk_at dksX9_statement_4 18 rfl rfl)
theorem dX9_statement_112 : decode cX9_statement 112 = .ok (.tableswitch 160 0 2 #[28, 64, 122], 28) := by decide +kernel
theorem dX9_statement_140 : decode cX9_statement 140 = .ok (.aload_n 0, 1) := dk_42 (dk_at dksX9_statement_6 0 rfl rfl)
theorem dX9_statement_141 : decode cX9_statement 141 = .ok (.aload_n 0, 1) := dk_42 (dk_at dksX9_statement_6 1 rfl rfl)
theorem dX9_statement_142 : decode cX9_statement 142 = .ok (.getfield 140, 3) := dk_180 0 140 (dk_at dksX9_statement_6 2 rfl rfl)
theorem dX9_statement_145 : decode cX9_statement 145 = .ok (.getfield 154, 3) := dk_180 0 154 (dk_at dksX9_statement_6 5 rfl rfl)
theorem dX9_statement_148 : decode cX9_statement 148 = .ok (.invokeinterface 158 1, 5) := by decide +kernel
theorem dX9_statement_153 : decode cX9_statement 153 = .ok (.bipush 6, 2) := dk_16 6 (dk_at dksX9_statement_6 13 rfl rfl)
theorem dX9_statement_155 : decode cX9_statement 155 = .ok (.if_icmp .ge 7, 3) := dk_162 0 7 (dk_at dksX9_statement_6 15 rfl rfl)
theorem dX9_statement_158 : decode cX9_statement 158 = .ok (.iconst 1, 1) := dk_4 (dk_at dksX9_statement_6 18 rfl rfl)
theorem dX9_statement_159 : decode cX9_statement 159 = .ok (.goto 4, 3) := dk_167 0 4 (dk_at dksX9_statement_6 19 rfl rfl)
theorem dX9_statement_162 : decode cX9_statement 162 = .ok (.iconst 0, 1) := dk_3 (dk_at dksX9_statement_6 22 rfl rfl)
theorem dX9_statement_163 : decode cX9_statement 163 = .ok (.bipush (-4), 2) := dk_16 252 (dk_at dksX9_statement_7 0 rfl rfl)
theorem dX9_statement_165 : decode cX9_statement 165 = .ok (.iload_n 2, 1) := dk_28 (dk_at dksX9_statement_7 2 rfl rfl)
theorem dX9_statement_166 : decode cX9_statement 166 = .ok (.invokevirtual 47, 3) := dk_182 0 47 (dk_at dksX9_statement_7 3 rfl rfl)
theorem dX9_statement_169 : decode cX9_statement 169 = .ok (.aload_n 0, 1) := dk_42 (dk_at dksX9_statement_7 6 rfl rfl)
theorem dX9_statement_170 : decode cX9_statement 170 = .ok (.invokevirtual 195, 3) := dk_182 0 195 (dk_at dksX9_statement_7 7 rfl rfl)
theorem dX9_statement_173 : decode cX9_statement 173 = .ok (.goto 110, 3) := dk_167 0 110 (dk_at dksX9_statement_7 10 rfl rfl)
theorem dX9_statement_176 : decode cX9_statement 176 = .ok (.aload_n 0, 1) := dk_42 (dk_at dksX9_statement_7 13 rfl rfl)
theorem dX9_statement_177 : decode cX9_statement 177 = .ok (.invokevirtual 172, 3) := dk_182 0 172 (dk_at dksX9_statement_7 14 rfl rfl)
theorem dX9_statement_180 : decode cX9_statement 180 = .ok (.istore 5, 2) := dk_54 5 (dk_at dksX9_statement_7 17 rfl rfl)
theorem dX9_statement_182 : decode cX9_statement 182 = .ok (.aload_n 0, 1) := dk_42 (dk_at dksX9_statement_7 19 rfl rfl)
theorem dX9_statement_183 : decode cX9_statement 183 = .ok (.iconst 0, 1) := dk_3 (dk_at dksX9_statement_7 20 rfl rfl)
theorem dX9_statement_184 : decode cX9_statement 184 = .ok (.iconst 1, 1) := dk_4 (dk_at dksX9_statement_7 21 rfl rfl)
theorem dX9_statement_185 : decode cX9_statement 185 = .ok (.invokevirtual 104, 3) := dk_182 0 104 (dk_at dksX9_statement_8 0 rfl rfl)
theorem dX9_statement_188 : decode cX9_statement 188 = .ok (.iconst 1, 1) := dk_4 (dk_at dksX9_statement_8 3 rfl rfl)
theorem dX9_statement_189 : decode cX9_statement 189 = .ok (.if_icmp .ne 7, 3) := dk_160 0 7 (dk_at dksX9_statement_8 4 rfl rfl)
theorem dX9_statement_192 : decode cX9_statement 192 = .ok (.iconst 1, 1) := dk_4 (dk_at dksX9_statement_8 7 rfl rfl)
theorem dX9_statement_193 : decode cX9_statement 193 = .ok (.goto 4, 3) := dk_167 0 4 (dk_at dksX9_statement_8 8 rfl rfl)
theorem dX9_statement_196 : decode cX9_statement 196 = .ok (.iconst 0, 1) := dk_3 (dk_at dksX9_statement_8 11 rfl rfl)
theorem dX9_statement_197 : decode cX9_statement 197 = .ok (.istore 6, 2) := dk_54 6 (dk_at dksX9_statement_8 12 rfl rfl)
theorem dX9_statement_199 : decode cX9_statement 199 = .ok (.aload_n 0, 1) := dk_42 (dk_at dksX9_statement_8 14 rfl rfl)
theorem dX9_statement_200 : decode cX9_statement 200 = .ok (.getfield 140, 3) := dk_180 0 140 (dk_at dksX9_statement_8 15 rfl rfl)
theorem dX9_statement_203 : decode cX9_statement 203 = .ok (.getfield 197, 3) := dk_180 0 197 (dk_at dksX9_statement_8 18 rfl rfl)
theorem dX9_statement_206 : decode cX9_statement 206 = .ok (.iload 5, 2) := dk_21 5 (dk_at dksX9_statement_8 21 rfl rfl)
theorem dX9_statement_208 : decode cX9_statement 208 = .ok (.invokestatic 201, 3) := dk_184 0 201 (dk_at dksX9_statement_9 0 rfl rfl)
theorem dX9_statement_211 : decode cX9_statement 211 = .ok (.new 207, 3) := dk_187 0 207 (dk_at dksX9_statement_9 3 rfl rfl)
theorem dX9_statement_214 : decode cX9_statement 214 = .ok (.dup, 1) := dk_89 (dk_at dksX9_statement_9 6 rfl rfl)
theorem dX9_statement_215 : decode cX9_statement 215 = .ok (.iload 6, 2) := dk_21 6 (dk_at dksX9_statement_9 7 rfl rfl)
theorem dX9_statement_217 : decode cX9_statement 217 = .ok (.aload_n 0, 1) := dk_42 (dk_at dksX9_statement_9 9 rfl rfl)
theorem dX9_statement_218 : decode cX9_statement 218 = .ok (.iconst 0, 1) := dk_3 (dk_at dksX9_statement_9 10 rfl rfl)
theorem dX9_statement_219 : decode cX9_statement 219 = .ok (.bipush 99, 2) := dk_16 99 (dk_at dksX9_statement_9 11 rfl rfl)
theorem dX9_statement_221 : decode cX9_statement 221 = .ok (.invokevirtual 104, 3) := dk_182 0 104 (dk_at dksX9_statement_9 13 rfl rfl)
theorem dX9_statement_224 : decode cX9_statement 224 = .ok (.invokespecial 209, 3) := dk_183 0 209 (dk_at dksX9_statement_9 16 rfl rfl)
theorem dX9_statement_227 : decode cX9_statement 227 = .ok (.invokevirtual 212, 3) := dk_182 0 212 (dk_at dksX9_statement_9 19 rfl rfl)
theorem dX9_statement_230 : decode cX9_statement 230 = .ok (.pop, 1) := dk_87 (dk_at dksX9_statement_9 22 rfl rfl)
theorem dX9_statement_231 : decode cX9_statement 231 = .ok (.goto 52, 3) := dk_167 0 52 (dk_at dksX9_statement_10 0 rfl rfl)
theorem dX9_statement_234 : decode cX9_statement 234 = .ok (.aload_n 0, 1) := dk_42 (dk_at dksX9_statement_10 3 rfl rfl)
theorem dX9_statement_235 : decode cX9_statement 235 = .ok (.aload_n 0, 1) := dk_42 (dk_at dksX9_statement_10 4 rfl rfl)
theorem dX9_statement_236 : decode cX9_statement 236 = .ok (.getfield 218, 3) := dk_180 0 218 (dk_at dksX9_statement_10 5 rfl rfl)
theorem dX9_statement_239 : decode cX9_statement 239 = .ok (.ifCond .ne 7, 3) := dk_154 0 7 (dk_at dksX9_statement_10 8 rfl rfl)
theorem dX9_statement_242 : decode cX9_statement 242 = .ok (.iconst 1, 1) := dk_4 (dk_at dksX9_statement_10 11 rfl rfl)
theorem dX9_statement_243 : decode cX9_statement 243 = .ok (.goto 4, 3) := dk_167 0 4 (dk_at dksX9_statement_10 12 rfl rfl)
theorem dX9_statement_246 : decode cX9_statement 246 = .ok (.iconst 0, 1) := dk_3 (dk_at dksX9_statement_10 15 rfl rfl)
theorem dX9_statement_247 : decode cX9_statement 247 = .ok (.bipush (-2), 2) := dk_16 254 (dk_at dksX9_statement_10 16 rfl rfl)
theorem dX9_statement_249 : decode cX9_statement 249 = .ok (.iload_n 2, 1) := dk_28 (dk_at dksX9_statement_10 18 rfl rfl)
theorem dX9_statement_250 : decode cX9_statement 250 = .ok (.invokevirtual 47, 3) := dk_182 0 47 (dk_at dksX9_statement_10 19 rfl rfl)
theorem dX9_statement_253 : decode cX9_statement 253 = .ok (.aload_n 0, 1) := dk_42 (dk_at dksX9_statement_10 22 rfl rfl)
theorem dX9_statement_254 : decode cX9_statement 254 = .ok (.iconst 1, 1) := dk_4 (dk_at dksX9_statement_10 23 rfl rfl)
theorem dX9_statement_255 : decode cX9_statement 255 = .ok (.putfield 218, 3) := dk_181 0 218 (dk_at dksX9_statement_11 0 rfl rfl)
theorem dX9_statement_258 : decode cX9_statement 258 = .ok (.aload_n 0, 1) := dk_42 (dk_at dksX9_statement_11 3 rfl rfl)
theorem dX9_statement_259 : decode cX9_statement 259 = .ok (.getfield 140, 3) := dk_180 0 140 (dk_at dksX9_statement_11 4 rfl rfl)
theorem dX9_statement_262 : decode cX9_statement 262 = .ok (.aload_n 0, 1) := dk_42 (dk_at dksX9_statement_11 7 rfl rfl)
theorem dX9_statement_263 : decode cX9_statement 263 = .ok (.invokevirtual 95, 3) := dk_182 0 95 (dk_at dksX9_statement_11 8 rfl rfl)
theorem dX9_statement_266 : decode cX9_statement 266 = .ok (.putfield 222, 3) := dk_181 0 222 (dk_at dksX9_statement_11 11 rfl rfl)
theorem dX9_statement_269 : decode cX9_statement 269 = .ok (.goto 14, 3) := dk_167 0 14 (dk_at dksX9_statement_11 14 rfl rfl)
theorem dX9_statement_272 : decode cX9_statement 272 = .ok (.new 38, 3) := dk_187 0 38 (dk_at dksX9_statement_11 17 rfl rfl)
theorem dX9_statement_275 : decode cX9_statement 275 = .ok (.dup, 1) := dk_89 (dk_at dksX9_statement_11 20 rfl rfl)
theorem dX9_statement_276 : decode cX9_statement 276 = .ok (.bipush (-2), 2) := dk_16 254 (dk_at dksX9_statement_11 21 rfl rfl)
theorem dX9_statement_278 : decode cX9_statement 278 = .ok (.iload_n 2, 1) := dk_28 (dk_at dksX9_statement_11 23 rfl rfl)
theorem dX9_statement_279 : decode cX9_statement 279 = .ok (.invokespecial 40, 3) := dk_183 0 40 (dk_at dksX9_statement_12 0 rfl rfl)
theorem dX9_statement_282 : decode cX9_statement 282 = .ok (.athrow, 1) := dk_191 (dk_at dksX9_statement_12 3 rfl rfl)
theorem dX9_statement_283 : decode cX9_statement 283 = .ok (.aload_n 0, 1) := dk_42 (dk_at dksX9_statement_12 4 rfl rfl)
theorem dX9_statement_284 : decode cX9_statement 284 = .ok (.bipush 59, 2) := dk_16 59 (dk_at dksX9_statement_12 5 rfl rfl)
theorem dX9_statement_286 : decode cX9_statement 286 = .ok (.invokevirtual 98, 3) := dk_182 0 98 (dk_at dksX9_statement_12 7 rfl rfl)
theorem dX9_statement_289 : decode cX9_statement 289 = .ok (.return_, 1) := dk_177 (dk_at dksX9_statement_12 10 rfl rfl)
abbrev cX9_job : ByteArray := prog_9_method_12_code
def yX9_job : MethodName := ⟨RX9, "job", "()V"⟩
def dkwX9_job_9 : List UInt8 := [4, 96, 181, 0, 169, 167, 255, 126, 42, 180, 0, 140, 180, 0, 154, 45, 185, 0, 184, 2, 0, 87, 177]
abbrev dktX9_job_9 : List UInt8 := dkwX9_job_9 ++ []
def dkwX9_job_8 : List UInt8 := [42, 180, 0, 15, 21, 4, 45, 180, 0, 169, 96, 42, 4, 16, 99, 182, 0, 104, 79, 45, 89, 180, 0, 169]
abbrev dktX9_job_8 : List UInt8 := dkwX9_job_8 ++ dktX9_job_9
def dkwX9_job_7 : List UInt8 := [25, 5, 21, 7, 182, 0, 178, 42, 180, 0, 140, 180, 0, 181, 21, 4, 45, 180, 0, 169, 96, 21, 7, 79]
abbrev dktX9_job_7 : List UInt8 := dkwX9_job_7 ++ dktX9_job_8
def dkwX9_job_6 : List UInt8 := [25, 5, 21, 7, 182, 0, 175, 154, 0, 7, 4, 167, 0, 4, 3, 16, 253, 42, 180, 0, 70, 182, 0, 47]
abbrev dktX9_job_6 : List UInt8 := dkwX9_job_6 ++ dktX9_job_7
def dkwX9_job_5 : List UInt8 := [180, 0, 23, 182, 0, 47, 42, 89, 180, 0, 23, 5, 96, 181, 0, 23, 42, 182, 0, 172, 54, 7, 42]
abbrev dktX9_job_5 : List UInt8 := dkwX9_job_5 ++ dktX9_job_6
def dkwX9_job_4 : List UInt8 := [182, 0, 166, 153, 0, 124, 42, 45, 180, 0, 169, 16, 6, 162, 0, 7, 4, 167, 0, 4, 3, 16, 252, 42]
abbrev dktX9_job_4 : List UInt8 := dkwX9_job_4 ++ dktX9_job_5
def dkwX9_job_3 : List UInt8 := [182, 0, 166, 54, 6, 42, 21, 6, 16, 254, 42, 180, 0, 23, 182, 0, 47, 42, 182, 0, 110, 18, 164]
abbrev dktX9_job_3 : List UInt8 := dkwX9_job_3 ++ dktX9_job_4
def dkwX9_job_2 : List UInt8 := [185, 0, 158, 1, 0, 104, 54, 4, 187, 0, 161, 89, 183, 0, 163, 58, 5, 42, 182, 0, 110, 18, 164]
abbrev dktX9_job_2 : List UInt8 := dkwX9_job_2 ++ dktX9_job_3
def dkwX9_job_1 : List UInt8 := [42, 3, 16, 99, 182, 0, 104, 183, 0, 151, 78, 16, 6, 42, 180, 0, 140, 180, 0, 154]
abbrev dktX9_job_1 : List UInt8 := dkwX9_job_1 ++ dktX9_job_2
def dkwX9_job_0 : List UInt8 := [42, 3, 17, 3, 231, 182, 0, 104, 60, 42, 3, 17, 39, 15, 182, 0, 104, 61, 187, 0, 149, 89, 27, 28]
abbrev dktX9_job_0 : List UInt8 := dkwX9_job_0 ++ dktX9_job_1
theorem dksX9_job_0 : cX9_job.data.toList.drop 0 = dktX9_job_0 := by decide +kernel
theorem dksX9_job_1 : cX9_job.data.toList.drop 24 = dktX9_job_1 := dk_seg dksX9_job_0 24 rfl rfl
theorem dksX9_job_2 : cX9_job.data.toList.drop 44 = dktX9_job_2 := dk_seg dksX9_job_1 20 rfl rfl
theorem dksX9_job_3 : cX9_job.data.toList.drop 67 = dktX9_job_3 := dk_seg dksX9_job_2 23 rfl rfl
theorem dksX9_job_4 : cX9_job.data.toList.drop 90 = dktX9_job_4 := dk_seg dksX9_job_3 23 rfl rfl
theorem dksX9_job_5 : cX9_job.data.toList.drop 114 = dktX9_job_5 := dk_seg dksX9_job_4 24 rfl rfl
theorem dksX9_job_6 : cX9_job.data.toList.drop 137 = dktX9_job_6 := dk_seg dksX9_job_5 23 rfl rfl
theorem dksX9_job_7 : cX9_job.data.toList.drop 161 = dktX9_job_7 := dk_seg dksX9_job_6 24 rfl rfl
theorem dksX9_job_8 : cX9_job.data.toList.drop 185 = dktX9_job_8 := dk_seg dksX9_job_7 24 rfl rfl
theorem dksX9_job_9 : cX9_job.data.toList.drop 209 = dktX9_job_9 := dk_seg dksX9_job_8 24 rfl rfl
theorem dX9_job_0 : decode cX9_job 0 = .ok (.aload_n 0, 1) := dk_42 (dk_at dksX9_job_0 0 rfl rfl)
theorem dX9_job_1 : decode cX9_job 1 = .ok (.iconst 0, 1) := dk_3 (dk_at dksX9_job_0 1 rfl rfl)
theorem dX9_job_2 : decode cX9_job 2 = .ok (.sipush 999, 3) := dk_17 3 231 (dk_at dksX9_job_0 2 rfl rfl)
theorem dX9_job_5 : decode cX9_job 5 = .ok (.invokevirtual 104, 3) := dk_182 0 104 (dk_at dksX9_job_0 5 rfl rfl)
theorem dX9_job_8 : decode cX9_job 8 = .ok (.istore_n 1, 1) := dk_60 (dk_at dksX9_job_0 8 rfl rfl)
theorem dX9_job_9 : decode cX9_job 9 = .ok (.aload_n 0, 1) := dk_42 (dk_at dksX9_job_0 9 rfl rfl)
theorem dX9_job_10 : decode cX9_job 10 = .ok (.iconst 0, 1) := dk_3 (dk_at dksX9_job_0 10 rfl rfl)
theorem dX9_job_11 : decode cX9_job 11 = .ok (.sipush 9999, 3) := dk_17 39 15 (dk_at dksX9_job_0 11 rfl rfl)
theorem dX9_job_14 : decode cX9_job 14 = .ok (.invokevirtual 104, 3) := dk_182 0 104 (dk_at dksX9_job_0 14 rfl rfl)
theorem dX9_job_17 : decode cX9_job 17 = .ok (.istore_n 2, 1) := dk_61 (dk_at dksX9_job_0 17 rfl rfl)
theorem dX9_job_18 : decode cX9_job 18 = .ok (.new 149, 3) := dk_187 0 149 (dk_at dksX9_job_0 18 rfl rfl)
theorem dX9_job_21 : decode cX9_job 21 = .ok (.dup, 1) := dk_89 (dk_at dksX9_job_0 21 rfl rfl)
theorem dX9_job_22 : decode cX9_job 22 = .ok (.iload_n 1, 1) := dk_27 (dk_at dksX9_job_0 22 rfl rfl)
theorem dX9_job_23 : decode cX9_job 23 = .ok (.iload_n 2, 1) := dk_28 (dk_at dksX9_job_0 23 rfl rfl)
theorem dX9_job_24 : decode cX9_job 24 = .ok (.aload_n 0, 1) := dk_42 (dk_at dksX9_job_1 0 rfl rfl)
theorem dX9_job_25 : decode cX9_job 25 = .ok (.iconst 0, 1) := dk_3 (dk_at dksX9_job_1 1 rfl rfl)
theorem dX9_job_26 : decode cX9_job 26 = .ok (.bipush 99, 2) := dk_16 99 (dk_at dksX9_job_1 2 rfl rfl)
theorem dX9_job_28 : decode cX9_job 28 = .ok (.invokevirtual 104, 3) := dk_182 0 104 (dk_at dksX9_job_1 4 rfl rfl)
theorem dX9_job_31 : decode cX9_job 31 = .ok (.invokespecial 151, 3) := dk_183 0 151 (dk_at dksX9_job_1 7 rfl rfl)
theorem dX9_job_34 : decode cX9_job 34 = .ok (.astore_n 3, 1) := dk_78 (dk_at dksX9_job_1 10 rfl rfl)
theorem dX9_job_35 : decode cX9_job 35 = .ok (.bipush 6, 2) := dk_16 6 (dk_at dksX9_job_1 11 rfl rfl)
theorem dX9_job_37 : decode cX9_job 37 = .ok (.aload_n 0, 1) := dk_42 (dk_at dksX9_job_1 13 rfl rfl)
theorem dX9_job_38 : decode cX9_job 38 = .ok (.getfield 140, 3) := dk_180 0 140 (dk_at dksX9_job_1 14 rfl rfl)
theorem dX9_job_41 : decode cX9_job 41 = .ok (.getfield 154, 3) := dk_180 0 154 (dk_at dksX9_job_1 17 rfl rfl)
theorem dX9_job_44 : decode cX9_job 44 = .ok (.invokeinterface 158 1, 5) := by decide +kernel
theorem dX9_job_49 : decode cX9_job 49 = .ok (.imul, 1) := dk_104 (dk_at dksX9_job_2 5 rfl rfl)
theorem dX9_job_50 : decode cX9_job 50 = .ok (.istore 4, 2) := dk_54 4 (dk_at dksX9_job_2 6 rfl rfl)
theorem dX9_job_52 : decode cX9_job 52 = .ok (.new 161, 3) := dk_187 0 161 (dk_at dksX9_job_2 8 rfl rfl)
theorem dX9_job_55 : decode cX9_job 55 = .ok (.dup, 1) := dk_89 (dk_at dksX9_job_2 11 rfl rfl)
theorem dX9_job_56 : decode cX9_job 56 = .ok (.invokespecial 163, 3) := dk_183 0 163 (dk_at dksX9_job_2 12 rfl rfl)
theorem dX9_job_59 : decode cX9_job 59 = .ok (.astore 5, 2) := dk_58 5 (dk_at dksX9_job_2 15 rfl rfl)
theorem dX9_job_61 : decode cX9_job 61 = .ok (.aload_n 0, 1) := dk_42 (dk_at dksX9_job_2 17 rfl rfl)
theorem dX9_job_62 : decode cX9_job 62 = .ok (.invokevirtual 110, 3) := dk_182 0 110 (dk_at dksX9_job_2 18 rfl rfl)
theorem dX9_job_65 : decode cX9_job 65 = .ok (.ldc 164, 2) := dk_18 164 (dk_at dksX9_job_2 21 rfl rfl)
theorem dX9_job_67 : decode cX9_job 67 = .ok (.invokevirtual 166, 3) := dk_182 0 166 (dk_at dksX9_job_3 0 rfl rfl)
theorem dX9_job_70 : decode cX9_job 70 = .ok (.istore 6, 2) := dk_54 6 (dk_at dksX9_job_3 3 rfl rfl)
theorem dX9_job_72 : decode cX9_job 72 = .ok (.aload_n 0, 1) := dk_42 (dk_at dksX9_job_3 5 rfl rfl)
theorem dX9_job_73 : decode cX9_job 73 = .ok (.iload 6, 2) := dk_21 6 (dk_at dksX9_job_3 6 rfl rfl)
theorem dX9_job_75 : decode cX9_job 75 = .ok (.bipush (-2), 2) := dk_16 254 (dk_at dksX9_job_3 8 rfl rfl)
theorem dX9_job_77 : decode cX9_job 77 = .ok (.aload_n 0, 1) := dk_42 (dk_at dksX9_job_3 10 rfl rfl)
theorem dX9_job_78 : decode cX9_job 78 = .ok (.getfield 23, 3) := dk_180 0 23 (dk_at dksX9_job_3 11 rfl rfl)
theorem dX9_job_81 : decode cX9_job 81 = .ok (.invokevirtual 47, 3) := dk_182 0 47 (dk_at dksX9_job_3 14 rfl rfl)
theorem dX9_job_84 : decode cX9_job 84 = .ok (.aload_n 0, 1) := dk_42 (dk_at dksX9_job_3 17 rfl rfl)
theorem dX9_job_85 : decode cX9_job 85 = .ok (.invokevirtual 110, 3) := dk_182 0 110 (dk_at dksX9_job_3 18 rfl rfl)
theorem dX9_job_88 : decode cX9_job 88 = .ok (.ldc 164, 2) := dk_18 164 (dk_at dksX9_job_3 21 rfl rfl)
theorem dX9_job_90 : decode cX9_job 90 = .ok (.invokevirtual 166, 3) := dk_182 0 166 (dk_at dksX9_job_4 0 rfl rfl)
theorem dX9_job_93 : decode cX9_job 93 = .ok (.ifCond .eq 124, 3) := dk_153 0 124 (dk_at dksX9_job_4 3 rfl rfl)
theorem dX9_job_96 : decode cX9_job 96 = .ok (.aload_n 0, 1) := dk_42 (dk_at dksX9_job_4 6 rfl rfl)
theorem dX9_job_97 : decode cX9_job 97 = .ok (.aload_n 3, 1) := dk_45 (dk_at dksX9_job_4 7 rfl rfl)
theorem dX9_job_98 : decode cX9_job 98 = .ok (.getfield 169, 3) := dk_180 0 169 (dk_at dksX9_job_4 8 rfl rfl)
theorem dX9_job_101 : decode cX9_job 101 = .ok (.bipush 6, 2) := dk_16 6 (dk_at dksX9_job_4 11 rfl rfl)
theorem dX9_job_103 : decode cX9_job 103 = .ok (.if_icmp .ge 7, 3) := dk_162 0 7 (dk_at dksX9_job_4 13 rfl rfl)
theorem dX9_job_106 : decode cX9_job 106 = .ok (.iconst 1, 1) := dk_4 (dk_at dksX9_job_4 16 rfl rfl)
theorem dX9_job_107 : decode cX9_job 107 = .ok (.goto 4, 3) := dk_167 0 4 (dk_at dksX9_job_4 17 rfl rfl)
theorem dX9_job_110 : decode cX9_job 110 = .ok (.iconst 0, 1) := dk_3 (dk_at dksX9_job_4 20 rfl rfl)
theorem dX9_job_111 : decode cX9_job 111 = .ok (.bipush (-4), 2) := dk_16 252 (dk_at dksX9_job_4 21 rfl rfl)
theorem dX9_job_113 : decode cX9_job 113 = .ok (.aload_n 0, 1) := dk_42 (dk_at dksX9_job_4 23 rfl rfl)
theorem dX9_job_114 : decode cX9_job 114 = .ok (.getfield 23, 3) := dk_180 0 23 (dk_at dksX9_job_5 0 rfl rfl)
theorem dX9_job_117 : decode cX9_job 117 = .ok (.invokevirtual 47, 3) := dk_182 0 47 (dk_at dksX9_job_5 3 rfl rfl)
theorem dX9_job_120 : decode cX9_job 120 = .ok (.aload_n 0, 1) := dk_42 (dk_at dksX9_job_5 6 rfl rfl)
theorem dX9_job_121 : decode cX9_job 121 = .ok (.dup, 1) := dk_89 (dk_at dksX9_job_5 7 rfl rfl)
theorem dX9_job_122 : decode cX9_job 122 = .ok (.getfield 23, 3) := dk_180 0 23 (dk_at dksX9_job_5 8 rfl rfl)
theorem dX9_job_125 : decode cX9_job 125 = .ok (.iconst 2, 1) := dk_5 (dk_at dksX9_job_5 11 rfl rfl)
theorem dX9_job_126 : decode cX9_job 126 = .ok (.iadd, 1) := dk_96 (dk_at dksX9_job_5 12 rfl rfl)
theorem dX9_job_127 : decode cX9_job 127 = .ok (.putfield 23, 3) := dk_181 0 23 (dk_at dksX9_job_5 13 rfl rfl)
theorem dX9_job_130 : decode cX9_job 130 = .ok (.aload_n 0, 1) := dk_42 (dk_at dksX9_job_5 16 rfl rfl)
theorem dX9_job_131 : decode cX9_job 131 = .ok (.invokevirtual 172, 3) := dk_182 0 172 (dk_at dksX9_job_5 17 rfl rfl)
theorem dX9_job_134 : decode cX9_job 134 = .ok (.istore 7, 2) := dk_54 7 (dk_at dksX9_job_5 20 rfl rfl)
theorem dX9_job_136 : decode cX9_job 136 = .ok (.aload_n 0, 1) := dk_42 (dk_at dksX9_job_5 22 rfl rfl)
theorem dX9_job_137 : decode cX9_job 137 = .ok (.aload 5, 2) := dk_25 5 (dk_at dksX9_job_6 0 rfl rfl)
theorem dX9_job_139 : decode cX9_job 139 = .ok (.iload 7, 2) := dk_21 7 (dk_at dksX9_job_6 2 rfl rfl)
theorem dX9_job_141 : decode cX9_job 141 = .ok (.invokevirtual 175, 3) := dk_182 0 175 (dk_at dksX9_job_6 4 rfl rfl)
theorem dX9_job_144 : decode cX9_job 144 = .ok (.ifCond .ne 7, 3) := dk_154 0 7 (dk_at dksX9_job_6 7 rfl rfl)
theorem dX9_job_147 : decode cX9_job 147 = .ok (.iconst 1, 1) := dk_4 (dk_at dksX9_job_6 10 rfl rfl)
theorem dX9_job_148 : decode cX9_job 148 = .ok (.goto 4, 3) := dk_167 0 4 (dk_at dksX9_job_6 11 rfl rfl)
theorem dX9_job_151 : decode cX9_job 151 = .ok (.iconst 0, 1) := dk_3 (dk_at dksX9_job_6 14 rfl rfl)
theorem dX9_job_152 : decode cX9_job 152 = .ok (.bipush (-3), 2) := dk_16 253 (dk_at dksX9_job_6 15 rfl rfl)
theorem dX9_job_154 : decode cX9_job 154 = .ok (.aload_n 0, 1) := dk_42 (dk_at dksX9_job_6 17 rfl rfl)
theorem dX9_job_155 : decode cX9_job 155 = .ok (.getfield 70, 3) := dk_180 0 70 (dk_at dksX9_job_6 18 rfl rfl)
theorem dX9_job_158 : decode cX9_job 158 = .ok (.invokevirtual 47, 3) := dk_182 0 47 (dk_at dksX9_job_6 21 rfl rfl)
theorem dX9_job_161 : decode cX9_job 161 = .ok (.aload 5, 2) := dk_25 5 (dk_at dksX9_job_7 0 rfl rfl)
theorem dX9_job_163 : decode cX9_job 163 = .ok (.iload 7, 2) := dk_21 7 (dk_at dksX9_job_7 2 rfl rfl)
theorem dX9_job_165 : decode cX9_job 165 = .ok (.invokevirtual 178, 3) := dk_182 0 178 (dk_at dksX9_job_7 4 rfl rfl)
theorem dX9_job_168 : decode cX9_job 168 = .ok (.aload_n 0, 1) := dk_42 (dk_at dksX9_job_7 7 rfl rfl)
theorem dX9_job_169 : decode cX9_job 169 = .ok (.getfield 140, 3) := dk_180 0 140 (dk_at dksX9_job_7 8 rfl rfl)
theorem dX9_job_172 : decode cX9_job 172 = .ok (.getfield 181, 3) := dk_180 0 181 (dk_at dksX9_job_7 11 rfl rfl)
theorem dX9_job_175 : decode cX9_job 175 = .ok (.iload 4, 2) := dk_21 4 (dk_at dksX9_job_7 14 rfl rfl)
theorem dX9_job_177 : decode cX9_job 177 = .ok (.aload_n 3, 1) := dk_45 (dk_at dksX9_job_7 16 rfl rfl)
theorem dX9_job_178 : decode cX9_job 178 = .ok (.getfield 169, 3) := dk_180 0 169 (dk_at dksX9_job_7 17 rfl rfl)
theorem dX9_job_181 : decode cX9_job 181 = .ok (.iadd, 1) := dk_96 (dk_at dksX9_job_7 20 rfl rfl)
theorem dX9_job_182 : decode cX9_job 182 = .ok (.iload 7, 2) := dk_21 7 (dk_at dksX9_job_7 21 rfl rfl)
theorem dX9_job_184 : decode cX9_job 184 = .ok (.iastore, 1) := dk_79 (dk_at dksX9_job_7 23 rfl rfl)
theorem dX9_job_185 : decode cX9_job 185 = .ok (.aload_n 0, 1) := dk_42 (dk_at dksX9_job_8 0 rfl rfl)
theorem dX9_job_186 : decode cX9_job 186 = .ok (.getfield 15, 3) := dk_180 0 15 (dk_at dksX9_job_8 1 rfl rfl)
theorem dX9_job_189 : decode cX9_job 189 = .ok (.iload 4, 2) := dk_21 4 (dk_at dksX9_job_8 4 rfl rfl)
theorem dX9_job_191 : decode cX9_job 191 = .ok (.aload_n 3, 1) := dk_45 (dk_at dksX9_job_8 6 rfl rfl)
theorem dX9_job_192 : decode cX9_job 192 = .ok (.getfield 169, 3) := dk_180 0 169 (dk_at dksX9_job_8 7 rfl rfl)
theorem dX9_job_195 : decode cX9_job 195 = .ok (.iadd, 1) := dk_96 (dk_at dksX9_job_8 10 rfl rfl)
theorem dX9_job_196 : decode cX9_job 196 = .ok (.aload_n 0, 1) := dk_42 (dk_at dksX9_job_8 11 rfl rfl)
theorem dX9_job_197 : decode cX9_job 197 = .ok (.iconst 1, 1) := dk_4 (dk_at dksX9_job_8 12 rfl rfl)
theorem dX9_job_198 : decode cX9_job 198 = .ok (.bipush 99, 2) := dk_16 99 (dk_at dksX9_job_8 13 rfl rfl)
theorem dX9_job_200 : decode cX9_job 200 = .ok (.invokevirtual 104, 3) := dk_182 0 104 (dk_at dksX9_job_8 15 rfl rfl)
theorem dX9_job_203 : decode cX9_job 203 = .ok (.iastore, 1) := dk_79 (dk_at dksX9_job_8 18 rfl rfl)
theorem dX9_job_204 : decode cX9_job 204 = .ok (.aload_n 3, 1) := dk_45 (dk_at dksX9_job_8 19 rfl rfl)
theorem dX9_job_205 : decode cX9_job 205 = .ok (.dup, 1) := dk_89 (dk_at dksX9_job_8 20 rfl rfl)
theorem dX9_job_206 : decode cX9_job 206 = .ok (.getfield 169, 3) := dk_180 0 169 (dk_at dksX9_job_8 21 rfl rfl)
theorem dX9_job_209 : decode cX9_job 209 = .ok (.iconst 1, 1) := dk_4 (dk_at dksX9_job_9 0 rfl rfl)
theorem dX9_job_210 : decode cX9_job 210 = .ok (.iadd, 1) := dk_96 (dk_at dksX9_job_9 1 rfl rfl)
theorem dX9_job_211 : decode cX9_job 211 = .ok (.putfield 169, 3) := dk_181 0 169 (dk_at dksX9_job_9 2 rfl rfl)
theorem dX9_job_214 : decode cX9_job 214 = .ok (.goto (-130), 3) := dk_167 255 126 (dk_at dksX9_job_9 5 rfl rfl)
theorem dX9_job_217 : decode cX9_job 217 = .ok (.aload_n 0, 1) := dk_42 (dk_at dksX9_job_9 8 rfl rfl)
theorem dX9_job_218 : decode cX9_job 218 = .ok (.getfield 140, 3) := dk_180 0 140 (dk_at dksX9_job_9 9 rfl rfl)
theorem dX9_job_221 : decode cX9_job 221 = .ok (.getfield 154, 3) := dk_180 0 154 (dk_at dksX9_job_9 12 rfl rfl)
theorem dX9_job_224 : decode cX9_job 224 = .ok (.aload_n 3, 1) := dk_45 (dk_at dksX9_job_9 15 rfl rfl)
theorem dX9_job_225 : decode cX9_job 225 = .ok (.invokeinterface 184 2, 5) := by decide +kernel
theorem dX9_job_230 : decode cX9_job 230 = .ok (.pop, 1) := dk_87 (dk_at dksX9_job_9 21 rfl rfl)
theorem dX9_job_231 : decode cX9_job 231 = .ok (.return_, 1) := dk_177 (dk_at dksX9_job_9 22 rfl rfl)
abbrev cX9_machine : ByteArray := prog_9_method_11_code
def yX9_machine : MethodName := ⟨RX9, "machine", "()I"⟩
def dkwX9_machine_0 : List UInt8 := [42, 3, 42, 180, 0, 140, 180, 0, 144, 4, 100, 182, 0, 104, 172]
abbrev dktX9_machine_0 : List UInt8 := dkwX9_machine_0 ++ []
theorem dksX9_machine_0 : cX9_machine.data.toList.drop 0 = dktX9_machine_0 := by decide +kernel
theorem dX9_machine_0 : decode cX9_machine 0 = .ok (.aload_n 0, 1) := dk_42 (dk_at dksX9_machine_0 0 rfl rfl)
theorem dX9_machine_1 : decode cX9_machine 1 = .ok (.iconst 0, 1) := dk_3 (dk_at dksX9_machine_0 1 rfl rfl)
theorem dX9_machine_2 : decode cX9_machine 2 = .ok (.aload_n 0, 1) := dk_42 (dk_at dksX9_machine_0 2 rfl rfl)
theorem dX9_machine_3 : decode cX9_machine 3 = .ok (.getfield 140, 3) := dk_180 0 140 (dk_at dksX9_machine_0 3 rfl rfl)
theorem dX9_machine_6 : decode cX9_machine 6 = .ok (.getfield 144, 3) := dk_180 0 144 (dk_at dksX9_machine_0 6 rfl rfl)
theorem dX9_machine_9 : decode cX9_machine 9 = .ok (.iconst 1, 1) := dk_4 (dk_at dksX9_machine_0 9 rfl rfl)
theorem dX9_machine_10 : decode cX9_machine 10 = .ok (.isub, 1) := dk_100 (dk_at dksX9_machine_0 10 rfl rfl)
theorem dX9_machine_11 : decode cX9_machine 11 = .ok (.invokevirtual 104, 3) := dk_182 0 104 (dk_at dksX9_machine_0 11 rfl rfl)
theorem dX9_machine_14 : decode cX9_machine 14 = .ok (.ireturn, 1) := dk_172 (dk_at dksX9_machine_0 14 rfl rfl)
abbrev cX9_sum : ByteArray := prog_9_method_8_code
def yX9_sum : MethodName := ⟨RX9, "sum", "()LBlockingShop$Node;"⟩
def dkwX9_sum_2 : List UInt8 := [187, 0, 84, 89, 28, 43, 42, 182, 0, 80, 183, 0, 86, 76, 167, 255, 201, 43, 176]
abbrev dktX9_sum_2 : List UInt8 := dkwX9_sum_2 ++ []
def dkwX9_sum_1 : List UInt8 := [180, 0, 3, 180, 0, 26, 42, 180, 0, 23, 51, 61, 42, 89, 180, 0, 23, 4, 96, 181, 0, 23]
abbrev dktX9_sum_1 : List UInt8 := dkwX9_sum_1 ++ dktX9_sum_2
def dkwX9_sum_0 : List UInt8 := [42, 182, 0, 80, 76, 42, 182, 0, 43, 16, 43, 159, 0, 12, 42, 182, 0, 43, 16, 45, 160, 0, 43, 42]
abbrev dktX9_sum_0 : List UInt8 := dkwX9_sum_0 ++ dktX9_sum_1
theorem dksX9_sum_0 : cX9_sum.data.toList.drop 0 = dktX9_sum_0 := by decide +kernel
theorem dksX9_sum_1 : cX9_sum.data.toList.drop 24 = dktX9_sum_1 := dk_seg dksX9_sum_0 24 rfl rfl
theorem dksX9_sum_2 : cX9_sum.data.toList.drop 46 = dktX9_sum_2 := dk_seg dksX9_sum_1 22 rfl rfl
theorem dX9_sum_0 : decode cX9_sum 0 = .ok (.aload_n 0, 1) := dk_42 (dk_at dksX9_sum_0 0 rfl rfl)
theorem dX9_sum_1 : decode cX9_sum 1 = .ok (.invokevirtual 80, 3) := dk_182 0 80 (dk_at dksX9_sum_0 1 rfl rfl)
theorem dX9_sum_4 : decode cX9_sum 4 = .ok (.astore_n 1, 1) := dk_76 (dk_at dksX9_sum_0 4 rfl rfl)
theorem dX9_sum_5 : decode cX9_sum 5 = .ok (.aload_n 0, 1) := dk_42 (dk_at dksX9_sum_0 5 rfl rfl)
theorem dX9_sum_6 : decode cX9_sum 6 = .ok (.invokevirtual 43, 3) := dk_182 0 43 (dk_at dksX9_sum_0 6 rfl rfl)
theorem dX9_sum_9 : decode cX9_sum 9 = .ok (.bipush 43, 2) := dk_16 43 (dk_at dksX9_sum_0 9 rfl rfl)
theorem dX9_sum_11 : decode cX9_sum 11 = .ok (.if_icmp .eq 12, 3) := dk_159 0 12 (dk_at dksX9_sum_0 11 rfl rfl)
theorem dX9_sum_14 : decode cX9_sum 14 = .ok (.aload_n 0, 1) := dk_42 (dk_at dksX9_sum_0 14 rfl rfl)
theorem dX9_sum_15 : decode cX9_sum 15 = .ok (.invokevirtual 43, 3) := dk_182 0 43 (dk_at dksX9_sum_0 15 rfl rfl)
theorem dX9_sum_18 : decode cX9_sum 18 = .ok (.bipush 45, 2) := dk_16 45 (dk_at dksX9_sum_0 18 rfl rfl)
theorem dX9_sum_20 : decode cX9_sum 20 = .ok (.if_icmp .ne 43, 3) := dk_160 0 43 (dk_at dksX9_sum_0 20 rfl rfl)
theorem dX9_sum_23 : decode cX9_sum 23 = .ok (.aload_n 0, 1) := dk_42 (dk_at dksX9_sum_0 23 rfl rfl)
theorem dX9_sum_24 : decode cX9_sum 24 = .ok (.getfield 3, 3) := dk_180 0 3 (dk_at dksX9_sum_1 0 rfl rfl)
theorem dX9_sum_27 : decode cX9_sum 27 = .ok (.getfield 26, 3) := dk_180 0 26 (dk_at dksX9_sum_1 3 rfl rfl)
theorem dX9_sum_30 : decode cX9_sum 30 = .ok (.aload_n 0, 1) := dk_42 (dk_at dksX9_sum_1 6 rfl rfl)
theorem dX9_sum_31 : decode cX9_sum 31 = .ok (.getfield 23, 3) := dk_180 0 23 (dk_at dksX9_sum_1 7 rfl rfl)
theorem dX9_sum_34 : decode cX9_sum 34 = .ok (.baload, 1) := dk_51 (dk_at dksX9_sum_1 10 rfl rfl)
theorem dX9_sum_35 : decode cX9_sum 35 = .ok (.istore_n 2, 1) := dk_61 (dk_at dksX9_sum_1 11 rfl rfl)
theorem dX9_sum_36 : decode cX9_sum 36 = .ok (.aload_n 0, 1) := dk_42 (dk_at dksX9_sum_1 12 rfl rfl)
theorem dX9_sum_37 : decode cX9_sum 37 = .ok (.dup, 1) := dk_89 (dk_at dksX9_sum_1 13 rfl rfl)
theorem dX9_sum_38 : decode cX9_sum 38 = .ok (.getfield 23, 3) := dk_180 0 23 (dk_at dksX9_sum_1 14 rfl rfl)
theorem dX9_sum_41 : decode cX9_sum 41 = .ok (.iconst 1, 1) := dk_4 (dk_at dksX9_sum_1 17 rfl rfl)
theorem dX9_sum_42 : decode cX9_sum 42 = .ok (.iadd, 1) := dk_96 (dk_at dksX9_sum_1 18 rfl rfl)
theorem dX9_sum_43 : decode cX9_sum 43 = .ok (.putfield 23, 3) := dk_181 0 23 (dk_at dksX9_sum_1 19 rfl rfl)
theorem dX9_sum_46 : decode cX9_sum 46 = .ok (.new 84, 3) := dk_187 0 84 (dk_at dksX9_sum_2 0 rfl rfl)
theorem dX9_sum_49 : decode cX9_sum 49 = .ok (.dup, 1) := dk_89 (dk_at dksX9_sum_2 3 rfl rfl)
theorem dX9_sum_50 : decode cX9_sum 50 = .ok (.iload_n 2, 1) := dk_28 (dk_at dksX9_sum_2 4 rfl rfl)
theorem dX9_sum_51 : decode cX9_sum 51 = .ok (.aload_n 1, 1) := dk_43 (dk_at dksX9_sum_2 5 rfl rfl)
theorem dX9_sum_52 : decode cX9_sum 52 = .ok (.aload_n 0, 1) := dk_42 (dk_at dksX9_sum_2 6 rfl rfl)
theorem dX9_sum_53 : decode cX9_sum 53 = .ok (.invokevirtual 80, 3) := dk_182 0 80 (dk_at dksX9_sum_2 7 rfl rfl)
theorem dX9_sum_56 : decode cX9_sum 56 = .ok (.invokespecial 86, 3) := dk_183 0 86 (dk_at dksX9_sum_2 10 rfl rfl)
theorem dX9_sum_59 : decode cX9_sum 59 = .ok (.astore_n 1, 1) := dk_76 (dk_at dksX9_sum_2 13 rfl rfl)
theorem dX9_sum_60 : decode cX9_sum 60 = .ok (.goto (-55), 3) := dk_167 255 201 (dk_at dksX9_sum_2 14 rfl rfl)
theorem dX9_sum_63 : decode cX9_sum 63 = .ok (.aload_n 1, 1) := dk_43 (dk_at dksX9_sum_2 17 rfl rfl)
theorem dX9_sum_64 : decode cX9_sum 64 = .ok (.areturn, 1) := dk_176 (dk_at dksX9_sum_2 18 rfl rfl)
abbrev cX9_term : ByteArray := prog_9_method_9_code
def yX9_term : MethodName := ⟨RX9, "term", "()LBlockingShop$Node;"⟩
def dkwX9_term_2 : List UInt8 := [187, 0, 84, 89, 28, 43, 42, 182, 0, 89, 183, 0, 86, 76, 167, 255, 201, 43, 176]
abbrev dktX9_term_2 : List UInt8 := dkwX9_term_2 ++ []
def dkwX9_term_1 : List UInt8 := [180, 0, 3, 180, 0, 26, 42, 180, 0, 23, 51, 61, 42, 89, 180, 0, 23, 4, 96, 181, 0, 23]
abbrev dktX9_term_1 : List UInt8 := dkwX9_term_1 ++ dktX9_term_2
def dkwX9_term_0 : List UInt8 := [42, 182, 0, 89, 76, 42, 182, 0, 43, 16, 42, 159, 0, 12, 42, 182, 0, 43, 16, 47, 160, 0, 43, 42]
abbrev dktX9_term_0 : List UInt8 := dkwX9_term_0 ++ dktX9_term_1
theorem dksX9_term_0 : cX9_term.data.toList.drop 0 = dktX9_term_0 := by decide +kernel
theorem dksX9_term_1 : cX9_term.data.toList.drop 24 = dktX9_term_1 := dk_seg dksX9_term_0 24 rfl rfl
theorem dksX9_term_2 : cX9_term.data.toList.drop 46 = dktX9_term_2 := dk_seg dksX9_term_1 22 rfl rfl
theorem dX9_term_0 : decode cX9_term 0 = .ok (.aload_n 0, 1) := dk_42 (dk_at dksX9_term_0 0 rfl rfl)
theorem dX9_term_1 : decode cX9_term 1 = .ok (.invokevirtual 89, 3) := dk_182 0 89 (dk_at dksX9_term_0 1 rfl rfl)
theorem dX9_term_4 : decode cX9_term 4 = .ok (.astore_n 1, 1) := dk_76 (dk_at dksX9_term_0 4 rfl rfl)
theorem dX9_term_5 : decode cX9_term 5 = .ok (.aload_n 0, 1) := dk_42 (dk_at dksX9_term_0 5 rfl rfl)
theorem dX9_term_6 : decode cX9_term 6 = .ok (.invokevirtual 43, 3) := dk_182 0 43 (dk_at dksX9_term_0 6 rfl rfl)
theorem dX9_term_9 : decode cX9_term 9 = .ok (.bipush 42, 2) := dk_16 42 (dk_at dksX9_term_0 9 rfl rfl)
theorem dX9_term_11 : decode cX9_term 11 = .ok (.if_icmp .eq 12, 3) := dk_159 0 12 (dk_at dksX9_term_0 11 rfl rfl)
theorem dX9_term_14 : decode cX9_term 14 = .ok (.aload_n 0, 1) := dk_42 (dk_at dksX9_term_0 14 rfl rfl)
theorem dX9_term_15 : decode cX9_term 15 = .ok (.invokevirtual 43, 3) := dk_182 0 43 (dk_at dksX9_term_0 15 rfl rfl)
theorem dX9_term_18 : decode cX9_term 18 = .ok (.bipush 47, 2) := dk_16 47 (dk_at dksX9_term_0 18 rfl rfl)
theorem dX9_term_20 : decode cX9_term 20 = .ok (.if_icmp .ne 43, 3) := dk_160 0 43 (dk_at dksX9_term_0 20 rfl rfl)
theorem dX9_term_23 : decode cX9_term 23 = .ok (.aload_n 0, 1) := dk_42 (dk_at dksX9_term_0 23 rfl rfl)
theorem dX9_term_24 : decode cX9_term 24 = .ok (.getfield 3, 3) := dk_180 0 3 (dk_at dksX9_term_1 0 rfl rfl)
theorem dX9_term_27 : decode cX9_term 27 = .ok (.getfield 26, 3) := dk_180 0 26 (dk_at dksX9_term_1 3 rfl rfl)
theorem dX9_term_30 : decode cX9_term 30 = .ok (.aload_n 0, 1) := dk_42 (dk_at dksX9_term_1 6 rfl rfl)
theorem dX9_term_31 : decode cX9_term 31 = .ok (.getfield 23, 3) := dk_180 0 23 (dk_at dksX9_term_1 7 rfl rfl)
theorem dX9_term_34 : decode cX9_term 34 = .ok (.baload, 1) := dk_51 (dk_at dksX9_term_1 10 rfl rfl)
theorem dX9_term_35 : decode cX9_term 35 = .ok (.istore_n 2, 1) := dk_61 (dk_at dksX9_term_1 11 rfl rfl)
theorem dX9_term_36 : decode cX9_term 36 = .ok (.aload_n 0, 1) := dk_42 (dk_at dksX9_term_1 12 rfl rfl)
theorem dX9_term_37 : decode cX9_term 37 = .ok (.dup, 1) := dk_89 (dk_at dksX9_term_1 13 rfl rfl)
theorem dX9_term_38 : decode cX9_term 38 = .ok (.getfield 23, 3) := dk_180 0 23 (dk_at dksX9_term_1 14 rfl rfl)
theorem dX9_term_41 : decode cX9_term 41 = .ok (.iconst 1, 1) := dk_4 (dk_at dksX9_term_1 17 rfl rfl)
theorem dX9_term_42 : decode cX9_term 42 = .ok (.iadd, 1) := dk_96 (dk_at dksX9_term_1 18 rfl rfl)
theorem dX9_term_43 : decode cX9_term 43 = .ok (.putfield 23, 3) := dk_181 0 23 (dk_at dksX9_term_1 19 rfl rfl)
theorem dX9_term_46 : decode cX9_term 46 = .ok (.new 84, 3) := dk_187 0 84 (dk_at dksX9_term_2 0 rfl rfl)
theorem dX9_term_49 : decode cX9_term 49 = .ok (.dup, 1) := dk_89 (dk_at dksX9_term_2 3 rfl rfl)
theorem dX9_term_50 : decode cX9_term 50 = .ok (.iload_n 2, 1) := dk_28 (dk_at dksX9_term_2 4 rfl rfl)
theorem dX9_term_51 : decode cX9_term 51 = .ok (.aload_n 1, 1) := dk_43 (dk_at dksX9_term_2 5 rfl rfl)
theorem dX9_term_52 : decode cX9_term 52 = .ok (.aload_n 0, 1) := dk_42 (dk_at dksX9_term_2 6 rfl rfl)
theorem dX9_term_53 : decode cX9_term 53 = .ok (.invokevirtual 89, 3) := dk_182 0 89 (dk_at dksX9_term_2 7 rfl rfl)
theorem dX9_term_56 : decode cX9_term 56 = .ok (.invokespecial 86, 3) := dk_183 0 86 (dk_at dksX9_term_2 10 rfl rfl)
theorem dX9_term_59 : decode cX9_term 59 = .ok (.astore_n 1, 1) := dk_76 (dk_at dksX9_term_2 13 rfl rfl)
theorem dX9_term_60 : decode cX9_term 60 = .ok (.goto (-55), 3) := dk_167 255 201 (dk_at dksX9_term_2 14 rfl rfl)
theorem dX9_term_63 : decode cX9_term 63 = .ok (.aload_n 1, 1) := dk_43 (dk_at dksX9_term_2 17 rfl rfl)
theorem dX9_term_64 : decode cX9_term 64 = .ok (.areturn, 1) := dk_176 (dk_at dksX9_term_2 18 rfl rfl)
abbrev cX9_factor : ByteArray := prog_9_method_10_code
def yX9_factor : MethodName := ⟨RX9, "factor", "()LBlockingShop$Node;"⟩
def dkwX9_factor_7 : List UInt8 := [176]
abbrev dktX9_factor_7 : List UInt8 := dkwX9_factor_7 ++ []
def dkwX9_factor_6 : List UInt8 := [182, 0, 47, 42, 89, 180, 0, 23, 43, 182, 0, 131, 96, 181, 0, 23, 187, 0, 135, 89, 43, 183, 0, 137]
abbrev dktX9_factor_6 : List UInt8 := dkwX9_factor_6 ++ dktX9_factor_7
def dkwX9_factor_5 : List UInt8 := [18, 113, 18, 115, 18, 117, 18, 119, 184, 0, 121, 43, 185, 0, 127, 2, 0, 16, 254, 42, 180, 0, 23]
abbrev dktX9_factor_5 : List UInt8 := dkwX9_factor_5 ++ dktX9_factor_6
def dkwX9_factor_4 : List UInt8 := [187, 0, 102, 89, 42, 3, 17, 39, 15, 182, 0, 104, 133, 183, 0, 107, 176, 42, 182, 0, 110, 76, 42]
abbrev dktX9_factor_4 : List UInt8 := dkwX9_factor_4 ++ dktX9_factor_5
def dkwX9_factor_3 : List UInt8 := [181, 0, 92, 43, 176, 42, 182, 0, 43, 133, 20, 0, 66, 20, 0, 68, 184, 0, 34, 153, 0, 20]
abbrev dktX9_factor_3 : List UInt8 := dkwX9_factor_3 ++ dktX9_factor_4
def dkwX9_factor_2 : List UInt8 := [4, 96, 181, 0, 23, 42, 182, 0, 95, 76, 42, 16, 41, 182, 0, 98, 42, 89, 180, 0, 92, 4, 100]
abbrev dktX9_factor_2 : List UInt8 := dkwX9_factor_2 ++ dktX9_factor_3
def dkwX9_factor_1 : List UInt8 := [16, 251, 42, 180, 0, 23, 182, 0, 47, 42, 89, 180, 0, 92, 4, 96, 181, 0, 92, 42, 89, 180, 0, 23]
abbrev dktX9_factor_1 : List UInt8 := dkwX9_factor_1 ++ dktX9_factor_2
def dkwX9_factor_0 : List UInt8 := [42, 182, 0, 43, 16, 40, 160, 0, 69, 42, 42, 180, 0, 92, 7, 162, 0, 7, 4, 167, 0, 4, 3]
abbrev dktX9_factor_0 : List UInt8 := dkwX9_factor_0 ++ dktX9_factor_1
theorem dksX9_factor_0 : cX9_factor.data.toList.drop 0 = dktX9_factor_0 := by decide +kernel
theorem dksX9_factor_1 : cX9_factor.data.toList.drop 23 = dktX9_factor_1 := dk_seg dksX9_factor_0 23 rfl rfl
theorem dksX9_factor_2 : cX9_factor.data.toList.drop 47 = dktX9_factor_2 := dk_seg dksX9_factor_1 24 rfl rfl
theorem dksX9_factor_3 : cX9_factor.data.toList.drop 70 = dktX9_factor_3 := dk_seg dksX9_factor_2 23 rfl rfl
theorem dksX9_factor_4 : cX9_factor.data.toList.drop 92 = dktX9_factor_4 := dk_seg dksX9_factor_3 22 rfl rfl
theorem dksX9_factor_5 : cX9_factor.data.toList.drop 115 = dktX9_factor_5 := dk_seg dksX9_factor_4 23 rfl rfl
theorem dksX9_factor_6 : cX9_factor.data.toList.drop 138 = dktX9_factor_6 := dk_seg dksX9_factor_5 23 rfl rfl
theorem dksX9_factor_7 : cX9_factor.data.toList.drop 162 = dktX9_factor_7 := dk_seg dksX9_factor_6 24 rfl rfl
theorem dX9_factor_0 : decode cX9_factor 0 = .ok (.aload_n 0, 1) := dk_42 (dk_at dksX9_factor_0 0 rfl rfl)
theorem dX9_factor_1 : decode cX9_factor 1 = .ok (.invokevirtual 43, 3) := dk_182 0 43 (dk_at dksX9_factor_0 1 rfl rfl)
theorem dX9_factor_4 : decode cX9_factor 4 = .ok (.bipush 40, 2) := dk_16 40 (dk_at dksX9_factor_0 4 rfl rfl)
theorem dX9_factor_6 : decode cX9_factor 6 = .ok (.if_icmp .ne 69, 3) := dk_160 0 69 (dk_at dksX9_factor_0 6 rfl rfl)
theorem dX9_factor_9 : decode cX9_factor 9 = .ok (.aload_n 0, 1) := dk_42 (dk_at dksX9_factor_0 9 rfl rfl)
theorem dX9_factor_10 : decode cX9_factor 10 = .ok (.aload_n 0, 1) := dk_42 (dk_at dksX9_factor_0 10 rfl rfl)
theorem dX9_factor_11 : decode cX9_factor 11 = .ok (.getfield 92, 3) := dk_180 0 92 (dk_at dksX9_factor_0 11 rfl rfl)
theorem dX9_factor_14 : decode cX9_factor 14 = .ok (.iconst 4, 1) := dk_7 (dk_at dksX9_factor_0 14 rfl rfl)
theorem dX9_factor_15 : decode cX9_factor 15 = .ok (.if_icmp .ge 7, 3) := dk_162 0 7 (dk_at dksX9_factor_0 15 rfl rfl)
theorem dX9_factor_18 : decode cX9_factor 18 = .ok (.iconst 1, 1) := dk_4 (dk_at dksX9_factor_0 18 rfl rfl)
theorem dX9_factor_19 : decode cX9_factor 19 = .ok (.goto 4, 3) := dk_167 0 4 (dk_at dksX9_factor_0 19 rfl rfl)
theorem dX9_factor_22 : decode cX9_factor 22 = .ok (.iconst 0, 1) := dk_3 (dk_at dksX9_factor_0 22 rfl rfl)
theorem dX9_factor_23 : decode cX9_factor 23 = .ok (.bipush (-5), 2) := dk_16 251 (dk_at dksX9_factor_1 0 rfl rfl)
theorem dX9_factor_25 : decode cX9_factor 25 = .ok (.aload_n 0, 1) := dk_42 (dk_at dksX9_factor_1 2 rfl rfl)
theorem dX9_factor_26 : decode cX9_factor 26 = .ok (.getfield 23, 3) := dk_180 0 23 (dk_at dksX9_factor_1 3 rfl rfl)
theorem dX9_factor_29 : decode cX9_factor 29 = .ok (.invokevirtual 47, 3) := dk_182 0 47 (dk_at dksX9_factor_1 6 rfl rfl)
theorem dX9_factor_32 : decode cX9_factor 32 = .ok (.aload_n 0, 1) := dk_42 (dk_at dksX9_factor_1 9 rfl rfl)
theorem dX9_factor_33 : decode cX9_factor 33 = .ok (.dup, 1) := dk_89 (dk_at dksX9_factor_1 10 rfl rfl)
theorem dX9_factor_34 : decode cX9_factor 34 = .ok (.getfield 92, 3) := dk_180 0 92 (dk_at dksX9_factor_1 11 rfl rfl)
theorem dX9_factor_37 : decode cX9_factor 37 = .ok (.iconst 1, 1) := dk_4 (dk_at dksX9_factor_1 14 rfl rfl)
theorem dX9_factor_38 : decode cX9_factor 38 = .ok (.iadd, 1) := dk_96 (dk_at dksX9_factor_1 15 rfl rfl)
theorem dX9_factor_39 : decode cX9_factor 39 = .ok (.putfield 92, 3) := dk_181 0 92 (dk_at dksX9_factor_1 16 rfl rfl)
theorem dX9_factor_42 : decode cX9_factor 42 = .ok (.aload_n 0, 1) := dk_42 (dk_at dksX9_factor_1 19 rfl rfl)
theorem dX9_factor_43 : decode cX9_factor 43 = .ok (.dup, 1) := dk_89 (dk_at dksX9_factor_1 20 rfl rfl)
theorem dX9_factor_44 : decode cX9_factor 44 = .ok (.getfield 23, 3) := dk_180 0 23 (dk_at dksX9_factor_1 21 rfl rfl)
theorem dX9_factor_47 : decode cX9_factor 47 = .ok (.iconst 1, 1) := dk_4 (dk_at dksX9_factor_2 0 rfl rfl)
theorem dX9_factor_48 : decode cX9_factor 48 = .ok (.iadd, 1) := dk_96 (dk_at dksX9_factor_2 1 rfl rfl)
theorem dX9_factor_49 : decode cX9_factor 49 = .ok (.putfield 23, 3) := dk_181 0 23 (dk_at dksX9_factor_2 2 rfl rfl)
theorem dX9_factor_52 : decode cX9_factor 52 = .ok (.aload_n 0, 1) := dk_42 (dk_at dksX9_factor_2 5 rfl rfl)
theorem dX9_factor_53 : decode cX9_factor 53 = .ok (.invokevirtual 95, 3) := dk_182 0 95 (dk_at dksX9_factor_2 6 rfl rfl)
theorem dX9_factor_56 : decode cX9_factor 56 = .ok (.astore_n 1, 1) := dk_76 (dk_at dksX9_factor_2 9 rfl rfl)
theorem dX9_factor_57 : decode cX9_factor 57 = .ok (.aload_n 0, 1) := dk_42 (dk_at dksX9_factor_2 10 rfl rfl)
theorem dX9_factor_58 : decode cX9_factor 58 = .ok (.bipush 41, 2) := dk_16 41 (dk_at dksX9_factor_2 11 rfl rfl)
theorem dX9_factor_60 : decode cX9_factor 60 = .ok (.invokevirtual 98, 3) := dk_182 0 98 (dk_at dksX9_factor_2 13 rfl rfl)
theorem dX9_factor_63 : decode cX9_factor 63 = .ok (.aload_n 0, 1) := dk_42 (dk_at dksX9_factor_2 16 rfl rfl)
theorem dX9_factor_64 : decode cX9_factor 64 = .ok (.dup, 1) := dk_89 (dk_at dksX9_factor_2 17 rfl rfl)
theorem dX9_factor_65 : decode cX9_factor 65 = .ok (.getfield 92, 3) := dk_180 0 92 (dk_at dksX9_factor_2 18 rfl rfl)
theorem dX9_factor_68 : decode cX9_factor 68 = .ok (.iconst 1, 1) := dk_4 (dk_at dksX9_factor_2 21 rfl rfl)
theorem dX9_factor_69 : decode cX9_factor 69 = .ok (.isub, 1) := dk_100 (dk_at dksX9_factor_2 22 rfl rfl)
theorem dX9_factor_70 : decode cX9_factor 70 = .ok (.putfield 92, 3) := dk_181 0 92 (dk_at dksX9_factor_3 0 rfl rfl)
theorem dX9_factor_73 : decode cX9_factor 73 = .ok (.aload_n 1, 1) := dk_43 (dk_at dksX9_factor_3 3 rfl rfl)
theorem dX9_factor_74 : decode cX9_factor 74 = .ok (.areturn, 1) := dk_176 (dk_at dksX9_factor_3 4 rfl rfl)
theorem dX9_factor_75 : decode cX9_factor 75 = .ok (.aload_n 0, 1) := dk_42 (dk_at dksX9_factor_3 5 rfl rfl)
theorem dX9_factor_76 : decode cX9_factor 76 = .ok (.invokevirtual 43, 3) := dk_182 0 43 (dk_at dksX9_factor_3 6 rfl rfl)
theorem dX9_factor_79 : decode cX9_factor 79 = .ok (.i2l, 1) := dk_133 (dk_at dksX9_factor_3 9 rfl rfl)
theorem dX9_factor_80 : decode cX9_factor 80 = .ok (.ldc2_w 66, 3) := dk_20 0 66 (dk_at dksX9_factor_3 10 rfl rfl)
theorem dX9_factor_83 : decode cX9_factor 83 = .ok (.ldc2_w 68, 3) := dk_20 0 68 (dk_at dksX9_factor_3 13 rfl rfl)
theorem dX9_factor_86 : decode cX9_factor 86 = .ok (.invokestatic 34, 3) := dk_184 0 34 (dk_at dksX9_factor_3 16 rfl rfl)
theorem dX9_factor_89 : decode cX9_factor 89 = .ok (.ifCond .eq 20, 3) := dk_153 0 20 (dk_at dksX9_factor_3 19 rfl rfl)
theorem dX9_factor_92 : decode cX9_factor 92 = .ok (.new 102, 3) := dk_187 0 102 (dk_at dksX9_factor_4 0 rfl rfl)
theorem dX9_factor_95 : decode cX9_factor 95 = .ok (.dup, 1) := dk_89 (dk_at dksX9_factor_4 3 rfl rfl)
theorem dX9_factor_96 : decode cX9_factor 96 = .ok (.aload_n 0, 1) := dk_42 (dk_at dksX9_factor_4 4 rfl rfl)
theorem dX9_factor_97 : decode cX9_factor 97 = .ok (.iconst 0, 1) := dk_3 (dk_at dksX9_factor_4 5 rfl rfl)
theorem dX9_factor_98 : decode cX9_factor 98 = .ok (.sipush 9999, 3) := dk_17 39 15 (dk_at dksX9_factor_4 6 rfl rfl)
theorem dX9_factor_101 : decode cX9_factor 101 = .ok (.invokevirtual 104, 3) := dk_182 0 104 (dk_at dksX9_factor_4 9 rfl rfl)
theorem dX9_factor_104 : decode cX9_factor 104 = .ok (.i2l, 1) := dk_133 (dk_at dksX9_factor_4 12 rfl rfl)
theorem dX9_factor_105 : decode cX9_factor 105 = .ok (.invokespecial 107, 3) := dk_183 0 107 (dk_at dksX9_factor_4 13 rfl rfl)
theorem dX9_factor_108 : decode cX9_factor 108 = .ok (.areturn, 1) := dk_176 (dk_at dksX9_factor_4 16 rfl rfl)
theorem dX9_factor_109 : decode cX9_factor 109 = .ok (.aload_n 0, 1) := dk_42 (dk_at dksX9_factor_4 17 rfl rfl)
theorem dX9_factor_110 : decode cX9_factor 110 = .ok (.invokevirtual 110, 3) := dk_182 0 110 (dk_at dksX9_factor_4 18 rfl rfl)
theorem dX9_factor_113 : decode cX9_factor 113 = .ok (.astore_n 1, 1) := dk_76 (dk_at dksX9_factor_4 21 rfl rfl)
theorem dX9_factor_114 : decode cX9_factor 114 = .ok (.aload_n 0, 1) := dk_42 (dk_at dksX9_factor_4 22 rfl rfl)
theorem dX9_factor_115 : decode cX9_factor 115 = .ok (.ldc 113, 2) := dk_18 113 (dk_at dksX9_factor_5 0 rfl rfl)
theorem dX9_factor_117 : decode cX9_factor 117 = .ok (.ldc 115, 2) := dk_18 115 (dk_at dksX9_factor_5 2 rfl rfl)
theorem dX9_factor_119 : decode cX9_factor 119 = .ok (.ldc 117, 2) := dk_18 117 (dk_at dksX9_factor_5 4 rfl rfl)
theorem dX9_factor_121 : decode cX9_factor 121 = .ok (.ldc 119, 2) := dk_18 119 (dk_at dksX9_factor_5 6 rfl rfl)
theorem dX9_factor_123 : decode cX9_factor 123 = .ok (.invokestatic 121, 3) := dk_184 0 121 (dk_at dksX9_factor_5 8 rfl rfl)
theorem dX9_factor_126 : decode cX9_factor 126 = .ok (.aload_n 1, 1) := dk_43 (dk_at dksX9_factor_5 11 rfl rfl)
theorem dX9_factor_127 : decode cX9_factor 127 = .ok (.invokeinterface 127 2, 5) := by decide +kernel
theorem dX9_factor_132 : decode cX9_factor 132 = .ok (.bipush (-2), 2) := dk_16 254 (dk_at dksX9_factor_5 17 rfl rfl)
theorem dX9_factor_134 : decode cX9_factor 134 = .ok (.aload_n 0, 1) := dk_42 (dk_at dksX9_factor_5 19 rfl rfl)
theorem dX9_factor_135 : decode cX9_factor 135 = .ok (.getfield 23, 3) := dk_180 0 23 (dk_at dksX9_factor_5 20 rfl rfl)
theorem dX9_factor_138 : decode cX9_factor 138 = .ok (.invokevirtual 47, 3) := dk_182 0 47 (dk_at dksX9_factor_6 0 rfl rfl)
theorem dX9_factor_141 : decode cX9_factor 141 = .ok (.aload_n 0, 1) := dk_42 (dk_at dksX9_factor_6 3 rfl rfl)
theorem dX9_factor_142 : decode cX9_factor 142 = .ok (.dup, 1) := dk_89 (dk_at dksX9_factor_6 4 rfl rfl)
theorem dX9_factor_143 : decode cX9_factor 143 = .ok (.getfield 23, 3) := dk_180 0 23 (dk_at dksX9_factor_6 5 rfl rfl)
theorem dX9_factor_146 : decode cX9_factor 146 = .ok (.aload_n 1, 1) := dk_43 (dk_at dksX9_factor_6 8 rfl rfl)
theorem dX9_factor_147 : decode cX9_factor 147 = .ok (.invokevirtual 131, 3) := dk_182 0 131 (dk_at dksX9_factor_6 9 rfl rfl)
theorem dX9_factor_150 : decode cX9_factor 150 = .ok (.iadd, 1) := dk_96 (dk_at dksX9_factor_6 12 rfl rfl)
theorem dX9_factor_151 : decode cX9_factor 151 = .ok (.putfield 23, 3) := dk_181 0 23 (dk_at dksX9_factor_6 13 rfl rfl)
theorem dX9_factor_154 : decode cX9_factor 154 = .ok (.new 135, 3) := dk_187 0 135 (dk_at dksX9_factor_6 16 rfl rfl)
theorem dX9_factor_157 : decode cX9_factor 157 = .ok (.dup, 1) := dk_89 (dk_at dksX9_factor_6 19 rfl rfl)
theorem dX9_factor_158 : decode cX9_factor 158 = .ok (.aload_n 1, 1) := dk_43 (dk_at dksX9_factor_6 20 rfl rfl)
theorem dX9_factor_159 : decode cX9_factor 159 = .ok (.invokespecial 137, 3) := dk_183 0 137 (dk_at dksX9_factor_6 21 rfl rfl)
theorem dX9_factor_162 : decode cX9_factor 162 = .ok (.areturn, 1) := dk_176 (dk_at dksX9_factor_7 0 rfl rfl)
theorem q113 : (Jvm.Cond.initialized "BlockingShop$Parser") ∈ lw_all := lw_g (lw_at lw_m1 19 rfl) rfl
theorem q325 : (Jvm.Cond.fieldLinkNest "BlockingShop$Parser" (144 : Nat) "BlockingShop$Layout" "machines" "I" "BlockingShop") ∈ lw_tbl := lw_at lw_m1 231 rfl
theorem q329 : (Jvm.Cond.fieldLinkNest "BlockingShop$Parser" (197 : Nat) "BlockingShop$Layout" "told" "Ljava/util/TreeMap;" "BlockingShop") ∈ lw_tbl := lw_at lw_m1 235 rfl
theorem q334 : (Jvm.Cond.fieldLinkNest "BlockingShop$Parser" (154 : Nat) "BlockingShop$Layout" "jobs" "Ljava/util/List;" "BlockingShop") ∈ lw_tbl := lw_at lw_m2 0 rfl
theorem q337 : (Jvm.Cond.fieldLinkNest "BlockingShop$Parser" (181 : Nat) "BlockingShop$Layout" "machineOf" "[I" "BlockingShop") ∈ lw_tbl := lw_at lw_m2 3 rfl
theorem q341 : (Jvm.Cond.fieldLinkNest "BlockingShop$Parser" (222 : Nat) "BlockingShop$Layout" "cost" "LBlockingShop$Node;" "BlockingShop") ∈ lw_tbl := lw_at lw_m2 7 rfl
theorem q369 : (Jvm.Cond.fieldLinkNest "BlockingShop$Parser" (242 : Nat) "BlockingShop$Plan" "durations" "[I" "BlockingShop") ∈ lw_tbl := lw_at lw_m2 35 rfl
theorem q391 : (Jvm.Cond.fieldLinkNest "BlockingShop$Parser" (26 : Nat) "BlockingShop" "buffer" "[B" "BlockingShop") ∈ lw_tbl := lw_at lw_m2 57 rfl
theorem q1488 : (Jvm.Cond.selects "BlockingShop$Parser" ({ cls := "java/lang/Object", name := "getClass", desc := "()Ljava/lang/Class;" } : Jvm.MethodName) ({ cls := "java/lang/Object", name := "getClass", desc := "()Ljava/lang/Class;" } : Jvm.MethodName)) ∈ lw_all := lw_g (lw_at lw_m6 194 rfl) rfl
theorem q2025 : (Jvm.Cond.instantiable "BlockingShop$Parser" (8 : Nat)) ∈ lw_all := lw_g (lw_at lw_m9 11 rfl) rfl
theorem q2027 : (Jvm.Cond.instanceMethod ({ cls := "BlockingShop$Parser", name := "<init>", desc := "(LBlockingShop;I)V" } : Jvm.MethodName)) ∈ lw_all := lw_g (lw_at lw_m9 13 rfl) rfl
theorem q2028 : (Jvm.Cond.code ({ cls := "BlockingShop$Parser", name := "<init>", desc := "(LBlockingShop;I)V" } : Jvm.MethodName) prog_9_method_1_code (3 : Nat) (Option.none : Option Jvm.ClassFile.FieldType)) ∈ lw_all := lw_g (lw_at lw_m9 14 rfl) rfl
theorem q2029 : (Jvm.Cond.methodLink "BlockingShop$Parser" (9 : Nat) ({ cls := "java/lang/Object", name := "<init>", desc := "()V" } : Jvm.MethodName)) ∈ lw_all := lw_g (lw_at lw_m9 15 rfl) rfl
theorem q2030 : (Jvm.Cond.fieldLink "BlockingShop$Parser" (19 : Nat) "BlockingShop$Parser" "length" "I") ∈ lw_all := lw_g (lw_at lw_m9 16 rfl) rfl
theorem q2031 : (Jvm.Cond.fieldLink "BlockingShop$Parser" (15 : Nat) "BlockingShop$Parser" "durations" "[I") ∈ lw_all := lw_g (lw_at lw_m9 17 rfl) rfl
theorem q2032 : (Jvm.Cond.fieldLink "BlockingShop$Parser" (140 : Nat) "BlockingShop$Parser" "layout" "LBlockingShop$Layout;") ∈ lw_all := lw_g (lw_at lw_m9 18 rfl) rfl
theorem q2033 : (Jvm.Cond.fieldLink "BlockingShop$Parser" (23 : Nat) "BlockingShop$Parser" "next" "I") ∈ lw_all := lw_g (lw_at lw_m9 19 rfl) rfl
theorem q2034 : (Jvm.Cond.fieldLink "BlockingShop$Parser" (70 : Nat) "BlockingShop$Parser" "start" "I") ∈ lw_all := lw_g (lw_at lw_m9 20 rfl) rfl
theorem q2035 : (Jvm.Cond.fieldLink "BlockingShop$Parser" (92 : Nat) "BlockingShop$Parser" "depth" "I") ∈ lw_all := lw_g (lw_at lw_m9 21 rfl) rfl
theorem q2036 : (Jvm.Cond.fieldLink "BlockingShop$Parser" (218 : Nat) "BlockingShop$Parser" "hasCost" "Z") ∈ lw_all := lw_g (lw_at lw_m9 22 rfl) rfl
theorem q2037 : (Jvm.Cond.fieldLink "BlockingShop$Parser" (3 : Nat) "BlockingShop$Parser" "this$0" "LBlockingShop;") ∈ lw_all := lw_g (lw_at lw_m9 23 rfl) rfl
theorem q2038 : (Jvm.Cond.laysFinal "BlockingShop$Parser" "BlockingShop$Parser" "length" "I") ∈ lw_all := lw_g (lw_at lw_m9 24 rfl) rfl
theorem q2039 : (Jvm.Cond.soleField "BlockingShop$Parser" "length") ∈ lw_all := lw_g (lw_at lw_m9 25 rfl) rfl
theorem q2040 : (Jvm.Cond.laysFinal "BlockingShop$Parser" "BlockingShop$Parser" "durations" "[I") ∈ lw_all := lw_g (lw_at lw_m9 26 rfl) rfl
theorem q2041 : (Jvm.Cond.soleField "BlockingShop$Parser" "durations") ∈ lw_all := lw_g (lw_at lw_m9 27 rfl) rfl
theorem q2042 : (Jvm.Cond.lays "BlockingShop$Parser" "BlockingShop$Parser" "layout" "LBlockingShop$Layout;") ∈ lw_all := lw_g (lw_at lw_m9 28 rfl) rfl
theorem q2043 : (Jvm.Cond.soleField "BlockingShop$Parser" "layout") ∈ lw_all := lw_g (lw_at lw_m9 29 rfl) rfl
theorem q2044 : (Jvm.Cond.lays "BlockingShop$Parser" "BlockingShop$Parser" "next" "I") ∈ lw_all := lw_g (lw_at lw_m9 30 rfl) rfl
theorem q2045 : (Jvm.Cond.soleField "BlockingShop$Parser" "next") ∈ lw_all := lw_g (lw_at lw_m9 31 rfl) rfl
theorem q2046 : (Jvm.Cond.lays "BlockingShop$Parser" "BlockingShop$Parser" "start" "I") ∈ lw_all := lw_g (lw_at lw_m9 32 rfl) rfl
theorem q2047 : (Jvm.Cond.soleField "BlockingShop$Parser" "start") ∈ lw_all := lw_g (lw_at lw_m9 33 rfl) rfl
theorem q2048 : (Jvm.Cond.lays "BlockingShop$Parser" "BlockingShop$Parser" "depth" "I") ∈ lw_all := lw_g (lw_at lw_m9 34 rfl) rfl
theorem q2049 : (Jvm.Cond.soleField "BlockingShop$Parser" "depth") ∈ lw_all := lw_g (lw_at lw_m9 35 rfl) rfl
theorem q2050 : (Jvm.Cond.lays "BlockingShop$Parser" "BlockingShop$Parser" "hasCost" "Z") ∈ lw_all := lw_g (lw_at lw_m9 36 rfl) rfl
theorem q2051 : (Jvm.Cond.soleField "BlockingShop$Parser" "hasCost") ∈ lw_all := lw_g (lw_at lw_m9 37 rfl) rfl
theorem q2052 : (Jvm.Cond.laysFinal "BlockingShop$Parser" "BlockingShop$Parser" "this$0" "LBlockingShop;") ∈ lw_all := lw_g (lw_at lw_m9 38 rfl) rfl
theorem q2053 : (Jvm.Cond.soleField "BlockingShop$Parser" "this$0") ∈ lw_all := lw_g (lw_at lw_m9 39 rfl) rfl
theorem q2054 : (Jvm.Cond.superclass "BlockingShop$Parser" "java/lang/Object") ∈ lw_all := lw_g (lw_at lw_m9 40 rfl) rfl
theorem q2056 : (Jvm.Cond.instanceMethod ({ cls := "BlockingShop$Parser", name := "parse", desc := "()LBlockingShop$Plan;" } : Jvm.MethodName)) ∈ lw_all := lw_g (lw_at lw_m9 42 rfl) rfl
theorem q2057 : (Jvm.Cond.selects "BlockingShop$Parser" ({ cls := "BlockingShop$Parser", name := "parse", desc := "()LBlockingShop$Plan;" } : Jvm.MethodName) ({ cls := "BlockingShop$Parser", name := "parse", desc := "()LBlockingShop$Plan;" } : Jvm.MethodName)) ∈ lw_all := lw_g (lw_at lw_m9 43 rfl) rfl
theorem q2058 : (Jvm.Cond.code ({ cls := "BlockingShop$Parser", name := "parse", desc := "()LBlockingShop$Plan;" } : Jvm.MethodName) prog_9_method_14_code (4 : Nat) (Option.some (Jvm.ClassFile.FieldType.object "BlockingShop$Plan"))) ∈ lw_all := lw_g (lw_at lw_m9 44 rfl) rfl
theorem q2059 : (Jvm.Cond.methodLink "BlockingShop$Parser" (110 : Nat) ({ cls := "BlockingShop$Parser", name := "word", desc := "()Ljava/lang/String;" } : Jvm.MethodName)) ∈ lw_all := lw_g (lw_at lw_m9 45 rfl) rfl
theorem q2060 : (Jvm.Cond.privateMethod ({ cls := "BlockingShop$Parser", name := "word", desc := "()Ljava/lang/String;" } : Jvm.MethodName)) ∈ lw_tbl := lw_at lw_m9 46 rfl
theorem q2061 : (Jvm.Cond.instanceMethod ({ cls := "BlockingShop$Parser", name := "word", desc := "()Ljava/lang/String;" } : Jvm.MethodName)) ∈ lw_all := lw_g (lw_at lw_m9 47 rfl) rfl
theorem q2062 : (Jvm.Cond.code ({ cls := "BlockingShop$Parser", name := "word", desc := "()Ljava/lang/String;" } : Jvm.MethodName) prog_9_method_6_code (3 : Nat) (Option.some (Jvm.ClassFile.FieldType.object "java/lang/String"))) ∈ lw_all := lw_g (lw_at lw_m9 48 rfl) rfl
theorem q2063 : (Jvm.Cond.methodLink "BlockingShop$Parser" (43 : Nat) ({ cls := "BlockingShop$Parser", name := "peek", desc := "()I" } : Jvm.MethodName)) ∈ lw_all := lw_g (lw_at lw_m9 49 rfl) rfl
theorem q2064 : (Jvm.Cond.privateMethod ({ cls := "BlockingShop$Parser", name := "peek", desc := "()I" } : Jvm.MethodName)) ∈ lw_tbl := lw_at lw_m9 50 rfl
theorem q2065 : (Jvm.Cond.instanceMethod ({ cls := "BlockingShop$Parser", name := "peek", desc := "()I" } : Jvm.MethodName)) ∈ lw_all := lw_g (lw_at lw_m9 51 rfl) rfl
theorem q2066 : (Jvm.Cond.code ({ cls := "BlockingShop$Parser", name := "peek", desc := "()I" } : Jvm.MethodName) prog_9_method_2_code (1 : Nat) (Option.some Jvm.ClassFile.FieldType.int)) ∈ lw_all := lw_g (lw_at lw_m9 52 rfl) rfl
theorem q2067 : (Jvm.Cond.classLink "BlockingShop$Parser" (51 : Nat) "java/lang/StringBuilder") ∈ lw_all := lw_g (lw_at lw_m9 53 rfl) rfl
theorem q2068 : (Jvm.Cond.methodLink "BlockingShop$Parser" (53 : Nat) ({ cls := "java/lang/StringBuilder", name := "<init>", desc := "()V" } : Jvm.MethodName)) ∈ lw_all := lw_g (lw_at lw_m9 54 rfl) rfl
theorem q2069 : (Jvm.Cond.methodLink "BlockingShop$Parser" (54 : Nat) ({ cls := "BlockingShop$Parser", name := "isLetterAt", desc := "(I)Z" } : Jvm.MethodName)) ∈ lw_all := lw_g (lw_at lw_m9 55 rfl) rfl
theorem q2070 : (Jvm.Cond.privateMethod ({ cls := "BlockingShop$Parser", name := "isLetterAt", desc := "(I)Z" } : Jvm.MethodName)) ∈ lw_tbl := lw_at lw_m9 56 rfl
theorem q2071 : (Jvm.Cond.instanceMethod ({ cls := "BlockingShop$Parser", name := "isLetterAt", desc := "(I)Z" } : Jvm.MethodName)) ∈ lw_all := lw_g (lw_at lw_m9 57 rfl) rfl
theorem q2072 : (Jvm.Cond.code ({ cls := "BlockingShop$Parser", name := "isLetterAt", desc := "(I)Z" } : Jvm.MethodName) prog_9_method_3_code (2 : Nat) (Option.some Jvm.ClassFile.FieldType.boolean)) ∈ lw_all := lw_g (lw_at lw_m9 58 rfl) rfl
theorem q2073 : (Jvm.Cond.constantLong "BlockingShop$Parser" (30 : Nat) (97 : Int64)) ∈ lw_all := lw_g (lw_at lw_m9 59 rfl) rfl
theorem q2074 : (Jvm.Cond.constantLong "BlockingShop$Parser" (32 : Nat) (122 : Int64)) ∈ lw_all := lw_g (lw_at lw_m9 60 rfl) rfl
theorem q2075 : (Jvm.Cond.methodLinkNest "BlockingShop$Parser" (34 : Nat) ({ cls := "BlockingShop", name := "isBetween", desc := "(JJJ)Z" } : Jvm.MethodName) "BlockingShop") ∈ lw_tbl := lw_at lw_m9 61 rfl
theorem q2076 : (Jvm.Cond.methodLink "BlockingShop$Parser" (58 : Nat) ({ cls := "java/lang/StringBuilder", name := "append", desc := "(C)Ljava/lang/StringBuilder;" } : Jvm.MethodName)) ∈ lw_all := lw_g (lw_at lw_m9 62 rfl) rfl
theorem q2096 : (Jvm.Cond.methodLink "BlockingShop$Parser" (62 : Nat) ({ cls := "java/lang/StringBuilder", name := "toString", desc := "()Ljava/lang/String;" } : Jvm.MethodName)) ∈ lw_all := lw_g (lw_at lw_m9 82 rfl) rfl
theorem q2097 : (Jvm.Cond.stringRef "BlockingShop$Parser" (225 : Nat) "shop") ∈ lw_tbl := lw_at lw_m9 83 rfl
theorem q2098 : (Jvm.Cond.methodLink "BlockingShop$Parser" (166 : Nat) ({ cls := "java/lang/String", name := "equals", desc := "(Ljava/lang/Object;)Z" } : Jvm.MethodName)) ∈ lw_all := lw_g (lw_at lw_m9 84 rfl) rfl
theorem q2099 : (Jvm.Cond.methodLink "BlockingShop$Parser" (47 : Nat) ({ cls := "BlockingShop$Parser", name := "require", desc := "(ZII)V" } : Jvm.MethodName)) ∈ lw_all := lw_g (lw_at lw_m9 85 rfl) rfl
theorem q2100 : (Jvm.Cond.privateMethod ({ cls := "BlockingShop$Parser", name := "require", desc := "(ZII)V" } : Jvm.MethodName)) ∈ lw_tbl := lw_at lw_m9 86 rfl
theorem q2101 : (Jvm.Cond.instanceMethod ({ cls := "BlockingShop$Parser", name := "require", desc := "(ZII)V" } : Jvm.MethodName)) ∈ lw_all := lw_g (lw_at lw_m9 87 rfl) rfl
theorem q2102 : (Jvm.Cond.code ({ cls := "BlockingShop$Parser", name := "require", desc := "(ZII)V" } : Jvm.MethodName) prog_9_method_4_code (4 : Nat) (Option.none : Option Jvm.ClassFile.FieldType)) ∈ lw_all := lw_g (lw_at lw_m9 88 rfl) rfl
theorem q2103 : (Jvm.Cond.classLink "BlockingShop$Parser" (38 : Nat) "BlockingShop$SetupException") ∈ lw_all := lw_g (lw_at lw_m9 89 rfl) rfl
theorem q2112 : (Jvm.Cond.methodLink "BlockingShop$Parser" (40 : Nat) ({ cls := "BlockingShop$SetupException", name := "<init>", desc := "(II)V" } : Jvm.MethodName)) ∈ lw_all := lw_g (lw_at lw_m9 98 rfl) rfl
theorem q2131 : (Jvm.Cond.methodLink "BlockingShop$Parser" (104 : Nat) ({ cls := "BlockingShop$Parser", name := "number", desc := "(II)I" } : Jvm.MethodName)) ∈ lw_all := lw_g (lw_at lw_m9 117 rfl) rfl
theorem q2132 : (Jvm.Cond.privateMethod ({ cls := "BlockingShop$Parser", name := "number", desc := "(II)I" } : Jvm.MethodName)) ∈ lw_tbl := lw_at lw_m9 118 rfl
theorem q2133 : (Jvm.Cond.instanceMethod ({ cls := "BlockingShop$Parser", name := "number", desc := "(II)I" } : Jvm.MethodName)) ∈ lw_all := lw_g (lw_at lw_m9 119 rfl) rfl
theorem q2134 : (Jvm.Cond.code ({ cls := "BlockingShop$Parser", name := "number", desc := "(II)I" } : Jvm.MethodName) prog_9_method_7_code (5 : Nat) (Option.some Jvm.ClassFile.FieldType.int)) ∈ lw_all := lw_g (lw_at lw_m9 120 rfl) rfl
theorem q2135 : (Jvm.Cond.constantLong "BlockingShop$Parser" (66 : Nat) (48 : Int64)) ∈ lw_all := lw_g (lw_at lw_m9 121 rfl) rfl
theorem q2136 : (Jvm.Cond.constantLong "BlockingShop$Parser" (68 : Nat) (57 : Int64)) ∈ lw_all := lw_g (lw_at lw_m9 122 rfl) rfl
theorem q2137 : (Jvm.Cond.constant "BlockingShop$Parser" (73 : Nat) (1000000 : Int32)) ∈ lw_all := lw_g (lw_at lw_m9 123 rfl) rfl
theorem q2138 : (Jvm.Cond.methodLink "BlockingShop$Parser" (74 : Nat) ({ cls := "java/lang/Math", name := "min", desc := "(II)I" } : Jvm.MethodName)) ∈ lw_all := lw_g (lw_at lw_m9 124 rfl) rfl
theorem q2139 : (Jvm.Cond.classLink "BlockingShop$Parser" (145 : Nat) "BlockingShop$Layout") ∈ lw_all := lw_g (lw_at lw_m9 125 rfl) rfl
theorem q2140 : (Jvm.Cond.methodLink "BlockingShop$Parser" (227 : Nat) ({ cls := "BlockingShop$Layout", name := "<init>", desc := "(IZ)V" } : Jvm.MethodName)) ∈ lw_all := lw_g (lw_at lw_m9 126 rfl) rfl
theorem q2141 : (Jvm.Cond.methodLink "BlockingShop$Parser" (98 : Nat) ({ cls := "BlockingShop$Parser", name := "expect", desc := "(I)V" } : Jvm.MethodName)) ∈ lw_all := lw_g (lw_at lw_m9 127 rfl) rfl
theorem q2142 : (Jvm.Cond.privateMethod ({ cls := "BlockingShop$Parser", name := "expect", desc := "(I)V" } : Jvm.MethodName)) ∈ lw_tbl := lw_at lw_m9 128 rfl
theorem q2143 : (Jvm.Cond.instanceMethod ({ cls := "BlockingShop$Parser", name := "expect", desc := "(I)V" } : Jvm.MethodName)) ∈ lw_all := lw_g (lw_at lw_m9 129 rfl) rfl
theorem q2144 : (Jvm.Cond.code ({ cls := "BlockingShop$Parser", name := "expect", desc := "(I)V" } : Jvm.MethodName) prog_9_method_5_code (3 : Nat) (Option.none : Option Jvm.ClassFile.FieldType)) ∈ lw_all := lw_g (lw_at lw_m9 130 rfl) rfl
theorem q2145 : (Jvm.Cond.methodLink "BlockingShop$Parser" (230 : Nat) ({ cls := "BlockingShop$Parser", name := "statement", desc := "()V" } : Jvm.MethodName)) ∈ lw_all := lw_g (lw_at lw_m9 131 rfl) rfl
theorem q2146 : (Jvm.Cond.privateMethod ({ cls := "BlockingShop$Parser", name := "statement", desc := "()V" } : Jvm.MethodName)) ∈ lw_tbl := lw_at lw_m9 132 rfl
theorem q2147 : (Jvm.Cond.instanceMethod ({ cls := "BlockingShop$Parser", name := "statement", desc := "()V" } : Jvm.MethodName)) ∈ lw_all := lw_g (lw_at lw_m9 133 rfl) rfl
theorem q2148 : (Jvm.Cond.code ({ cls := "BlockingShop$Parser", name := "statement", desc := "()V" } : Jvm.MethodName) prog_9_method_13_code (7 : Nat) (Option.none : Option Jvm.ClassFile.FieldType)) ∈ lw_all := lw_g (lw_at lw_m9 134 rfl) rfl
theorem q2149 : (Jvm.Cond.methodLink "BlockingShop$Parser" (131 : Nat) ({ cls := "java/lang/String", name := "length", desc := "()I" } : Jvm.MethodName)) ∈ lw_all := lw_g (lw_at lw_m9 135 rfl) rfl
theorem q2150 : (Jvm.Cond.methodLink "BlockingShop$Parser" (187 : Nat) ({ cls := "java/lang/String", name := "hashCode", desc := "()I" } : Jvm.MethodName)) ∈ lw_all := lw_g (lw_at lw_m9 136 rfl) rfl
theorem q2151 : (Jvm.Cond.stringRef "BlockingShop$Parser" (190 : Nat) "job") ∈ lw_tbl := lw_at lw_m9 137 rfl
theorem q2152 : (Jvm.Cond.stringRef "BlockingShop$Parser" (192 : Nat) "machine") ∈ lw_tbl := lw_at lw_m9 138 rfl
theorem q2153 : (Jvm.Cond.stringRef "BlockingShop$Parser" (193 : Nat) "cost") ∈ lw_tbl := lw_at lw_m9 139 rfl
theorem q2154 : (Jvm.Cond.interfaceEntry "BlockingShop$Parser" (158 : Nat)) ∈ lw_tbl := lw_at lw_m9 140 rfl
theorem q2155 : (Jvm.Cond.methodLink "BlockingShop$Parser" (158 : Nat) ({ cls := "java/util/List", name := "size", desc := "()I" } : Jvm.MethodName)) ∈ lw_all := lw_g (lw_at lw_m9 141 rfl) rfl
theorem q2156 : (Jvm.Cond.methodLink "BlockingShop$Parser" (195 : Nat) ({ cls := "BlockingShop$Parser", name := "job", desc := "()V" } : Jvm.MethodName)) ∈ lw_all := lw_g (lw_at lw_m9 142 rfl) rfl
theorem q2157 : (Jvm.Cond.privateMethod ({ cls := "BlockingShop$Parser", name := "job", desc := "()V" } : Jvm.MethodName)) ∈ lw_tbl := lw_at lw_m9 143 rfl
theorem q2158 : (Jvm.Cond.instanceMethod ({ cls := "BlockingShop$Parser", name := "job", desc := "()V" } : Jvm.MethodName)) ∈ lw_all := lw_g (lw_at lw_m9 144 rfl) rfl
theorem q2159 : (Jvm.Cond.code ({ cls := "BlockingShop$Parser", name := "job", desc := "()V" } : Jvm.MethodName) prog_9_method_12_code (8 : Nat) (Option.none : Option Jvm.ClassFile.FieldType)) ∈ lw_all := lw_g (lw_at lw_m9 145 rfl) rfl
theorem q2160 : (Jvm.Cond.classLink "BlockingShop$Parser" (149 : Nat) "BlockingShop$Job") ∈ lw_all := lw_g (lw_at lw_m9 146 rfl) rfl
theorem q2162 : (Jvm.Cond.methodLink "BlockingShop$Parser" (151 : Nat) ({ cls := "BlockingShop$Job", name := "<init>", desc := "(III)V" } : Jvm.MethodName)) ∈ lw_all := lw_g (lw_at lw_m9 148 rfl) rfl
theorem q2177 : (Jvm.Cond.fieldLinkNest "BlockingShop$Parser" (169 : Nat) "BlockingShop$Job" "count" "I" "BlockingShop") ∈ lw_tbl := lw_at lw_m9 163 rfl
theorem q2187 : (Jvm.Cond.classLink "BlockingShop$Parser" (161 : Nat) "java/util/BitSet") ∈ lw_all := lw_g (lw_at lw_m9 173 rfl) rfl
theorem q2188 : (Jvm.Cond.methodLink "BlockingShop$Parser" (163 : Nat) ({ cls := "java/util/BitSet", name := "<init>", desc := "()V" } : Jvm.MethodName)) ∈ lw_all := lw_g (lw_at lw_m9 174 rfl) rfl
theorem q2189 : (Jvm.Cond.stringRef "BlockingShop$Parser" (164 : Nat) "op") ∈ lw_tbl := lw_at lw_m9 175 rfl
theorem q2190 : (Jvm.Cond.methodLink "BlockingShop$Parser" (172 : Nat) ({ cls := "BlockingShop$Parser", name := "machine", desc := "()I" } : Jvm.MethodName)) ∈ lw_all := lw_g (lw_at lw_m9 176 rfl) rfl
theorem q2191 : (Jvm.Cond.privateMethod ({ cls := "BlockingShop$Parser", name := "machine", desc := "()I" } : Jvm.MethodName)) ∈ lw_tbl := lw_at lw_m9 177 rfl
theorem q2192 : (Jvm.Cond.instanceMethod ({ cls := "BlockingShop$Parser", name := "machine", desc := "()I" } : Jvm.MethodName)) ∈ lw_all := lw_g (lw_at lw_m9 178 rfl) rfl
theorem q2193 : (Jvm.Cond.code ({ cls := "BlockingShop$Parser", name := "machine", desc := "()I" } : Jvm.MethodName) prog_9_method_11_code (1 : Nat) (Option.some Jvm.ClassFile.FieldType.int)) ∈ lw_all := lw_g (lw_at lw_m9 179 rfl) rfl
theorem q2194 : (Jvm.Cond.methodLink "BlockingShop$Parser" (175 : Nat) ({ cls := "java/util/BitSet", name := "get", desc := "(I)Z" } : Jvm.MethodName)) ∈ lw_all := lw_g (lw_at lw_m9 180 rfl) rfl
theorem q2195 : (Jvm.Cond.methodLink "BlockingShop$Parser" (178 : Nat) ({ cls := "java/util/BitSet", name := "set", desc := "(I)V" } : Jvm.MethodName)) ∈ lw_all := lw_g (lw_at lw_m9 181 rfl) rfl
theorem q2196 : (Jvm.Cond.interfaceEntry "BlockingShop$Parser" (184 : Nat)) ∈ lw_tbl := lw_at lw_m9 182 rfl
theorem q2197 : (Jvm.Cond.methodLink "BlockingShop$Parser" (184 : Nat) ({ cls := "java/util/List", name := "add", desc := "(Ljava/lang/Object;)Z" } : Jvm.MethodName)) ∈ lw_all := lw_g (lw_at lw_m9 183 rfl) rfl
theorem q2198 : (Jvm.Cond.methodLink "BlockingShop$Parser" (201 : Nat) ({ cls := "java/lang/Integer", name := "valueOf", desc := "(I)Ljava/lang/Integer;" } : Jvm.MethodName)) ∈ lw_all := lw_g (lw_at lw_m9 184 rfl) rfl
theorem q2199 : (Jvm.Cond.classLink "BlockingShop$Parser" (207 : Nat) "BlockingShop$Machine") ∈ lw_all := lw_g (lw_at lw_m9 185 rfl) rfl
theorem q2200 : (Jvm.Cond.methodLink "BlockingShop$Parser" (209 : Nat) ({ cls := "BlockingShop$Machine", name := "<init>", desc := "(ZI)V" } : Jvm.MethodName)) ∈ lw_all := lw_g (lw_at lw_m9 186 rfl) rfl
theorem q2201 : (Jvm.Cond.methodLink "BlockingShop$Parser" (212 : Nat) ({ cls := "java/util/TreeMap", name := "put", desc := "(Ljava/lang/Object;Ljava/lang/Object;)Ljava/lang/Object;" } : Jvm.MethodName)) ∈ lw_all := lw_g (lw_at lw_m9 187 rfl) rfl
theorem q2277 : (Jvm.Cond.methodLink "BlockingShop$Parser" (95 : Nat) ({ cls := "BlockingShop$Parser", name := "sum", desc := "()LBlockingShop$Node;" } : Jvm.MethodName)) ∈ lw_all := lw_g (lw_at lw_m10 23 rfl) rfl
theorem q2278 : (Jvm.Cond.privateMethod ({ cls := "BlockingShop$Parser", name := "sum", desc := "()LBlockingShop$Node;" } : Jvm.MethodName)) ∈ lw_tbl := lw_at lw_m10 24 rfl
theorem q2279 : (Jvm.Cond.instanceMethod ({ cls := "BlockingShop$Parser", name := "sum", desc := "()LBlockingShop$Node;" } : Jvm.MethodName)) ∈ lw_all := lw_g (lw_at lw_m10 25 rfl) rfl
theorem q2280 : (Jvm.Cond.code ({ cls := "BlockingShop$Parser", name := "sum", desc := "()LBlockingShop$Node;" } : Jvm.MethodName) prog_9_method_8_code (3 : Nat) (Option.some (Jvm.ClassFile.FieldType.object "BlockingShop$Node"))) ∈ lw_all := lw_g (lw_at lw_m10 26 rfl) rfl
theorem q2281 : (Jvm.Cond.methodLink "BlockingShop$Parser" (80 : Nat) ({ cls := "BlockingShop$Parser", name := "term", desc := "()LBlockingShop$Node;" } : Jvm.MethodName)) ∈ lw_all := lw_g (lw_at lw_m10 27 rfl) rfl
theorem q2282 : (Jvm.Cond.privateMethod ({ cls := "BlockingShop$Parser", name := "term", desc := "()LBlockingShop$Node;" } : Jvm.MethodName)) ∈ lw_tbl := lw_at lw_m10 28 rfl
theorem q2283 : (Jvm.Cond.instanceMethod ({ cls := "BlockingShop$Parser", name := "term", desc := "()LBlockingShop$Node;" } : Jvm.MethodName)) ∈ lw_all := lw_g (lw_at lw_m10 29 rfl) rfl
theorem q2284 : (Jvm.Cond.code ({ cls := "BlockingShop$Parser", name := "term", desc := "()LBlockingShop$Node;" } : Jvm.MethodName) prog_9_method_9_code (3 : Nat) (Option.some (Jvm.ClassFile.FieldType.object "BlockingShop$Node"))) ∈ lw_all := lw_g (lw_at lw_m10 30 rfl) rfl
theorem q2285 : (Jvm.Cond.methodLink "BlockingShop$Parser" (89 : Nat) ({ cls := "BlockingShop$Parser", name := "factor", desc := "()LBlockingShop$Node;" } : Jvm.MethodName)) ∈ lw_all := lw_g (lw_at lw_m10 31 rfl) rfl
theorem q2286 : (Jvm.Cond.privateMethod ({ cls := "BlockingShop$Parser", name := "factor", desc := "()LBlockingShop$Node;" } : Jvm.MethodName)) ∈ lw_tbl := lw_at lw_m10 32 rfl
theorem q2287 : (Jvm.Cond.instanceMethod ({ cls := "BlockingShop$Parser", name := "factor", desc := "()LBlockingShop$Node;" } : Jvm.MethodName)) ∈ lw_all := lw_g (lw_at lw_m10 33 rfl) rfl
theorem q2288 : (Jvm.Cond.code ({ cls := "BlockingShop$Parser", name := "factor", desc := "()LBlockingShop$Node;" } : Jvm.MethodName) prog_9_method_10_code (2 : Nat) (Option.some (Jvm.ClassFile.FieldType.object "BlockingShop$Node"))) ∈ lw_all := lw_g (lw_at lw_m10 34 rfl) rfl
theorem q2289 : (Jvm.Cond.classLink "BlockingShop$Parser" (102 : Nat) "BlockingShop$Literal") ∈ lw_all := lw_g (lw_at lw_m10 35 rfl) rfl
theorem q2291 : (Jvm.Cond.methodLink "BlockingShop$Parser" (107 : Nat) ({ cls := "BlockingShop$Literal", name := "<init>", desc := "(J)V" } : Jvm.MethodName)) ∈ lw_all := lw_g (lw_at lw_m10 37 rfl) rfl
theorem q2299 : (Jvm.Cond.stringRef "BlockingShop$Parser" (113 : Nat) "completion") ∈ lw_tbl := lw_at lw_m10 45 rfl
theorem q2300 : (Jvm.Cond.stringRef "BlockingShop$Parser" (115 : Nat) "due") ∈ lw_tbl := lw_at lw_m10 46 rfl
theorem q2301 : (Jvm.Cond.stringRef "BlockingShop$Parser" (117 : Nat) "weight") ∈ lw_tbl := lw_at lw_m10 47 rfl
theorem q2302 : (Jvm.Cond.stringRef "BlockingShop$Parser" (119 : Nat) "release") ∈ lw_tbl := lw_at lw_m10 48 rfl
theorem q2303 : (Jvm.Cond.methodLink "BlockingShop$Parser" (121 : Nat) ({ cls := "java/util/List", name := "of", desc := "(Ljava/lang/Object;Ljava/lang/Object;Ljava/lang/Object;Ljava/lang/Object;)Ljava/util/List;" } : Jvm.MethodName)) ∈ lw_all := lw_g (lw_at lw_m10 49 rfl) rfl
theorem q2353 : (Jvm.Cond.interfaceEntry "BlockingShop$Parser" (127 : Nat)) ∈ lw_tbl := lw_at lw_m10 99 rfl
theorem q2354 : (Jvm.Cond.methodLink "BlockingShop$Parser" (127 : Nat) ({ cls := "java/util/List", name := "contains", desc := "(Ljava/lang/Object;)Z" } : Jvm.MethodName)) ∈ lw_all := lw_g (lw_at lw_m10 100 rfl) rfl
theorem q2381 : (Jvm.Cond.selects "BlockingShop$Parser" ({ cls := "java/lang/Object", name := "equals", desc := "(Ljava/lang/Object;)Z" } : Jvm.MethodName) ({ cls := "java/lang/Object", name := "equals", desc := "(Ljava/lang/Object;)Z" } : Jvm.MethodName)) ∈ lw_all := lw_g (lw_at lw_m10 127 rfl) rfl
theorem q2430 : (Jvm.Cond.classLink "BlockingShop$Parser" (135 : Nat) "BlockingShop$Variable") ∈ lw_all := lw_g (lw_at lw_m10 176 rfl) rfl
theorem q2431 : (Jvm.Cond.methodLink "BlockingShop$Parser" (137 : Nat) ({ cls := "BlockingShop$Variable", name := "<init>", desc := "(Ljava/lang/String;)V" } : Jvm.MethodName)) ∈ lw_all := lw_g (lw_at lw_m10 177 rfl) rfl
theorem q2432 : (Jvm.Cond.classLink "BlockingShop$Parser" (84 : Nat) "BlockingShop$Operation") ∈ lw_all := lw_g (lw_at lw_m10 178 rfl) rfl
theorem q2434 : (Jvm.Cond.methodLink "BlockingShop$Parser" (86 : Nat) ({ cls := "BlockingShop$Operation", name := "<init>", desc := "(ILBlockingShop$Node;LBlockingShop$Node;)V" } : Jvm.MethodName)) ∈ lw_all := lw_g (lw_at lw_m10 180 rfl) rfl
theorem q2448 : (Jvm.Cond.interfaceEntry "BlockingShop$Parser" (233 : Nat)) ∈ lw_tbl := lw_at lw_m10 194 rfl
theorem q2449 : (Jvm.Cond.methodLink "BlockingShop$Parser" (233 : Nat) ({ cls := "java/util/List", name := "isEmpty", desc := "()Z" } : Jvm.MethodName)) ∈ lw_all := lw_g (lw_at lw_m10 195 rfl) rfl
theorem q2473 : (Jvm.Cond.classLink "BlockingShop$Parser" (237 : Nat) "BlockingShop$Plan") ∈ lw_all := lw_g (lw_at lw_m10 219 rfl) rfl
theorem q2474 : (Jvm.Cond.methodLink "BlockingShop$Parser" (239 : Nat) ({ cls := "BlockingShop$Plan", name := "<init>", desc := "(LBlockingShop$Layout;)V" } : Jvm.MethodName)) ∈ lw_all := lw_g (lw_at lw_m10 220 rfl) rfl
theorem q2475 : (Jvm.Cond.methodLink "BlockingShop$Parser" (243 : Nat) ({ cls := "java/lang/System", name := "arraycopy", desc := "(Ljava/lang/Object;ILjava/lang/Object;II)V" } : Jvm.MethodName)) ∈ lw_all := lw_g (lw_at lw_m10 221 rfl) rfl
theorem q2476 : (Jvm.Cond.methodLink "BlockingShop$Parser" (249 : Nat) ({ cls := "BlockingShop$Plan", name := "first", desc := "()V" } : Jvm.MethodName)) ∈ lw_all := lw_g (lw_at lw_m10 222 rfl) rfl
theorem q3154 : (Jvm.Cond.castable "BlockingShop$Parser" "java/lang/Object") ∈ lw_tbl := lw_at lw_m13 180 rfl
theorem in_X9 : ∀ w ∈ wsX90, w ∈ lw_all := lw_in wsX90 [2038, 2040, 2042, 2044, 2046, 2048, 2050, 2052] (by decide +kernel) (by decide +kernel)

/-! the law's own entry -/
set_option maxRecDepth 100000
abbrev cL_law : ByteArray := code
def dkwL_law_60 : List UInt8 := [3, 172, 132, 4, 6, 167, 250, 47, 4, 172]
abbrev dktL_law_60 : List UInt8 := dkwL_law_60 ++ []
def dkwL_law_59 : List UInt8 := [182, 0, 181, 44, 182, 0, 184, 159, 0, 19, 3, 172, 43, 182, 0, 185, 44, 182, 0, 189, 148, 153, 0, 5]
abbrev dktL_law_59 : List UInt8 := dkwL_law_59 ++ dktL_law_60
def dkwL_law_58 : List UInt8 := [153, 0, 5, 3, 172, 167, 0, 43, 43, 182, 0, 177, 44, 182, 0, 180, 159, 0, 32, 3, 172, 43]
abbrev dktL_law_58 : List UInt8 := dkwL_law_58 ++ dktL_law_59
def dkwL_law_57 : List UInt8 := [182, 0, 87, 21, 5, 159, 0, 5, 3, 172, 21, 5, 154, 0, 15, 45, 3, 47, 21, 6, 133, 148]
abbrev dktL_law_57 : List UInt8 := dkwL_law_57 ++ dktL_law_58
def dkwL_law_56 : List UInt8 := [21, 4, 4, 96, 46, 42, 21, 4, 5, 96, 46, 42, 21, 4, 6, 96, 46, 182, 0, 176, 54, 6, 44]
abbrev dktL_law_56 : List UInt8 := dkwL_law_56 ++ dktL_law_57
def dkwL_law_55 : List UInt8 := [4, 96, 46, 42, 21, 4, 5, 96, 46, 42, 21, 4, 6, 96, 46, 45, 184, 0, 174, 54, 5, 44, 42]
abbrev dktL_law_55 : List UInt8 := dkwL_law_55 ++ dktL_law_56
def dkwL_law_54 : List UInt8 := [21, 5, 154, 0, 15, 45, 3, 47, 21, 6, 133, 148, 153, 0, 5, 3, 172, 167, 0, 123, 43, 42, 21, 4]
abbrev dktL_law_54 : List UInt8 := dkwL_law_54 ++ dktL_law_55
def dkwL_law_53 : List UInt8 := [96, 46, 42, 21, 4, 6, 96, 46, 182, 0, 173, 54, 6, 44, 182, 0, 87, 21, 5, 159, 0, 5, 3, 172]
abbrev dktL_law_53 : List UInt8 := dkwL_law_53 ++ dktL_law_54
def dkwL_law_52 : List UInt8 := [46, 42, 21, 4, 6, 96, 46, 45, 184, 0, 171, 54, 5, 44, 42, 21, 4, 4, 96, 46, 42, 21, 4, 5]
abbrev dktL_law_52 : List UInt8 := dkwL_law_52 ++ dktL_law_53
def dkwL_law_51 : List UInt8 := [21, 6, 133, 148, 153, 0, 5, 3, 172, 167, 0, 203, 43, 42, 21, 4, 4, 96, 46, 42, 21, 4, 5, 96]
abbrev dktL_law_51 : List UInt8 := dkwL_law_51 ++ dktL_law_52
def dkwL_law_50 : List UInt8 := [182, 0, 170, 54, 6, 44, 182, 0, 87, 21, 5, 159, 0, 5, 3, 172, 21, 5, 154, 0, 15, 45, 3, 47]
abbrev dktL_law_50 : List UInt8 := dkwL_law_50 ++ dktL_law_51
def dkwL_law_49 : List UInt8 := [167, 1, 3, 43, 42, 21, 4, 4, 96, 46, 45, 184, 0, 168, 54, 5, 44, 42, 21, 4, 4, 96, 46]
abbrev dktL_law_49 : List UInt8 := dkwL_law_49 ++ dktL_law_50
def dkwL_law_48 : List UInt8 := [159, 0, 5, 3, 172, 21, 5, 154, 0, 15, 45, 3, 47, 21, 6, 133, 148, 153, 0, 5, 3, 172]
abbrev dktL_law_48 : List UInt8 := dkwL_law_48 ++ dktL_law_49
def dkwL_law_47 : List UInt8 := [21, 4, 4, 96, 46, 42, 21, 4, 5, 96, 46, 182, 0, 167, 54, 6, 44, 182, 0, 87, 21, 5]
abbrev dktL_law_47 : List UInt8 := dkwL_law_47 ++ dktL_law_48
def dkwL_law_46 : List UInt8 := [3, 172, 43, 42, 21, 4, 4, 96, 46, 42, 21, 4, 5, 96, 46, 45, 184, 0, 165, 54, 5, 44, 42]
abbrev dktL_law_46 : List UInt8 := dkwL_law_46 ++ dktL_law_47
def dkwL_law_45 : List UInt8 := [47, 21, 6, 133, 148, 153, 0, 5, 3, 172, 167, 1, 84, 43, 182, 0, 161, 44, 182, 0, 164, 159, 1, 73]
abbrev dktL_law_45 : List UInt8 := dkwL_law_45 ++ dktL_law_46
def dkwL_law_44 : List UInt8 := [46, 182, 0, 160, 54, 6, 44, 182, 0, 87, 21, 5, 159, 0, 5, 3, 172, 21, 5, 154, 0, 15, 45, 3]
abbrev dktL_law_44 : List UInt8 := dkwL_law_44 ++ dktL_law_45
def dkwL_law_43 : List UInt8 := [42, 21, 4, 5, 96, 46, 45, 184, 0, 158, 54, 5, 44, 42, 21, 4, 4, 96, 46, 42, 21, 4, 5, 96]
abbrev dktL_law_43 : List UInt8 := dkwL_law_43 ++ dktL_law_44
def dkwL_law_42 : List UInt8 := [153, 0, 7, 10, 167, 0, 4, 9, 148, 153, 0, 5, 3, 172, 167, 1, 152, 43, 42, 21, 4, 4, 96, 46]
abbrev dktL_law_42 : List UInt8 := dkwL_law_42 ++ dktL_law_43
def dkwL_law_41 : List UInt8 := [54, 6, 44, 182, 0, 87, 21, 5, 159, 0, 5, 3, 172, 21, 5, 154, 0, 22, 45, 3, 47, 21, 6]
abbrev dktL_law_41 : List UInt8 := dkwL_law_41 ++ dktL_law_42
def dkwL_law_40 : List UInt8 := [46, 45, 184, 0, 155, 54, 5, 44, 42, 21, 4, 4, 96, 46, 42, 21, 4, 5, 96, 46, 182, 0, 157]
abbrev dktL_law_40 : List UInt8 := dkwL_law_40 ++ dktL_law_41
def dkwL_law_39 : List UInt8 := [182, 0, 151, 44, 182, 0, 154, 159, 1, 229, 3, 172, 43, 42, 21, 4, 4, 96, 46, 42, 21, 4, 5, 96]
abbrev dktL_law_39 : List UInt8 := dkwL_law_39 ++ dktL_law_40
def dkwL_law_38 : List UInt8 := [153, 0, 5, 3, 172, 167, 1, 253, 43, 182, 0, 147, 44, 182, 0, 150, 159, 1, 242, 3, 172, 43]
abbrev dktL_law_38 : List UInt8 := dkwL_law_38 ++ dktL_law_39
def dkwL_law_37 : List UInt8 := [182, 0, 87, 21, 5, 159, 0, 5, 3, 172, 21, 5, 154, 0, 15, 45, 3, 47, 21, 6, 133, 148]
abbrev dktL_law_37 : List UInt8 := dkwL_law_37 ++ dktL_law_38
def dkwL_law_36 : List UInt8 := [21, 4, 4, 96, 46, 45, 184, 0, 144, 54, 5, 44, 42, 21, 4, 4, 96, 46, 182, 0, 146, 54, 6, 44]
abbrev dktL_law_36 : List UInt8 := dkwL_law_36 ++ dktL_law_37
def dkwL_law_35 : List UInt8 := [153, 0, 5, 3, 172, 167, 2, 66, 43, 182, 0, 140, 44, 182, 0, 143, 159, 2, 55, 3, 172, 43, 42]
abbrev dktL_law_35 : List UInt8 := dkwL_law_35 ++ dktL_law_36
def dkwL_law_34 : List UInt8 := [182, 0, 87, 21, 5, 159, 0, 5, 3, 172, 21, 5, 154, 0, 15, 45, 3, 47, 21, 6, 133, 148]
abbrev dktL_law_34 : List UInt8 := dkwL_law_34 ++ dktL_law_35
def dkwL_law_33 : List UInt8 := [21, 4, 4, 96, 46, 45, 184, 0, 137, 54, 5, 44, 42, 21, 4, 4, 96, 46, 182, 0, 139, 54, 6, 44]
abbrev dktL_law_33 : List UInt8 := dkwL_law_33 ++ dktL_law_34
def dkwL_law_32 : List UInt8 := [148, 153, 0, 5, 3, 172, 167, 2, 135, 43, 182, 0, 133, 44, 182, 0, 136, 159, 2, 124, 3, 172, 43, 42]
abbrev dktL_law_32 : List UInt8 := dkwL_law_32 ++ dktL_law_33
def dkwL_law_31 : List UInt8 := [54, 6, 44, 182, 0, 87, 21, 5, 159, 0, 5, 3, 172, 21, 5, 154, 0, 15, 45, 3, 47, 21, 6, 133]
abbrev dktL_law_31 : List UInt8 := dkwL_law_31 ++ dktL_law_32
def dkwL_law_30 : List UInt8 := [172, 43, 42, 21, 4, 4, 96, 46, 45, 184, 0, 130, 54, 5, 44, 42, 21, 4, 4, 96, 46, 182, 0, 132]
abbrev dktL_law_30 : List UInt8 := dkwL_law_30 ++ dktL_law_31
def dkwL_law_29 : List UInt8 := [21, 6, 133, 148, 153, 0, 5, 3, 172, 167, 2, 204, 43, 182, 0, 126, 44, 182, 0, 129, 159, 2, 193, 3]
abbrev dktL_law_29 : List UInt8 := dkwL_law_29 ++ dktL_law_30
def dkwL_law_28 : List UInt8 := [182, 0, 125, 54, 6, 44, 182, 0, 87, 21, 5, 159, 0, 5, 3, 172, 21, 5, 154, 0, 15, 45, 3, 47]
abbrev dktL_law_28 : List UInt8 := dkwL_law_28 ++ dktL_law_29
def dkwL_law_27 : List UInt8 := [167, 3, 4, 43, 42, 21, 4, 4, 96, 46, 45, 184, 0, 123, 54, 5, 44, 42, 21, 4, 4, 96, 46]
abbrev dktL_law_27 : List UInt8 := dkwL_law_27 ++ dktL_law_28
def dkwL_law_26 : List UInt8 := [159, 0, 5, 3, 172, 21, 5, 154, 0, 15, 45, 3, 47, 21, 6, 133, 148, 153, 0, 5, 3, 172]
abbrev dktL_law_26 : List UInt8 := dkwL_law_26 ++ dktL_law_27
def dkwL_law_25 : List UInt8 := [21, 4, 4, 96, 46, 42, 21, 4, 5, 96, 46, 182, 0, 122, 54, 6, 44, 182, 0, 87, 21, 5]
abbrev dktL_law_25 : List UInt8 := dkwL_law_25 ++ dktL_law_26
def dkwL_law_24 : List UInt8 := [167, 3, 72, 43, 42, 21, 4, 4, 96, 46, 42, 21, 4, 5, 96, 46, 45, 184, 0, 120, 54, 5, 44, 42]
abbrev dktL_law_24 : List UInt8 := dkwL_law_24 ++ dktL_law_25
def dkwL_law_23 : List UInt8 := [159, 0, 5, 3, 172, 21, 5, 154, 0, 15, 45, 3, 47, 21, 6, 133, 148, 153, 0, 5, 3, 172]
abbrev dktL_law_23 : List UInt8 := dkwL_law_23 ++ dktL_law_24
def dkwL_law_22 : List UInt8 := [21, 4, 4, 96, 46, 42, 21, 4, 5, 96, 46, 182, 0, 119, 54, 6, 44, 182, 0, 87, 21, 5]
abbrev dktL_law_22 : List UInt8 := dkwL_law_22 ++ dktL_law_23
def dkwL_law_21 : List UInt8 := [167, 3, 140, 43, 42, 21, 4, 4, 96, 46, 42, 21, 4, 5, 96, 46, 45, 184, 0, 117, 54, 5, 44, 42]
abbrev dktL_law_21 : List UInt8 := dkwL_law_21 ++ dktL_law_22
def dkwL_law_20 : List UInt8 := [159, 0, 5, 3, 172, 21, 5, 154, 0, 15, 45, 3, 47, 21, 6, 133, 148, 153, 0, 5, 3, 172]
abbrev dktL_law_20 : List UInt8 := dkwL_law_20 ++ dktL_law_21
def dkwL_law_19 : List UInt8 := [21, 4, 4, 96, 46, 42, 21, 4, 5, 96, 46, 182, 0, 116, 54, 6, 44, 182, 0, 87, 21, 5]
abbrev dktL_law_19 : List UInt8 := dkwL_law_19 ++ dktL_law_20
def dkwL_law_18 : List UInt8 := [167, 3, 208, 43, 42, 21, 4, 4, 96, 46, 42, 21, 4, 5, 96, 46, 45, 184, 0, 113, 54, 5, 44, 42]
abbrev dktL_law_18 : List UInt8 := dkwL_law_18 ++ dktL_law_19
def dkwL_law_17 : List UInt8 := [21, 5, 159, 0, 5, 3, 172, 21, 5, 154, 0, 15, 45, 3, 47, 21, 6, 133, 148, 153, 0, 5, 3, 172]
abbrev dktL_law_17 : List UInt8 := dkwL_law_17 ++ dktL_law_18
def dkwL_law_16 : List UInt8 := [46, 45, 184, 0, 110, 54, 5, 44, 42, 21, 4, 4, 96, 46, 182, 0, 112, 54, 6, 44, 182, 0, 87]
abbrev dktL_law_16 : List UInt8 := dkwL_law_16 ++ dktL_law_17
def dkwL_law_15 : List UInt8 := [154, 0, 15, 45, 3, 47, 21, 6, 133, 148, 153, 0, 5, 3, 172, 167, 4, 8, 43, 42, 21, 4, 4, 96]
abbrev dktL_law_15 : List UInt8 := dkwL_law_15 ++ dktL_law_16
def dkwL_law_14 : List UInt8 := [42, 21, 4, 6, 96, 46, 182, 0, 109, 54, 6, 44, 182, 0, 87, 21, 5, 159, 0, 5, 3, 172, 21, 5]
abbrev dktL_law_14 : List UInt8 := dkwL_law_14 ++ dktL_law_15
def dkwL_law_13 : List UInt8 := [21, 4, 6, 96, 46, 45, 184, 0, 106, 54, 5, 44, 42, 21, 4, 4, 96, 46, 42, 21, 4, 5, 96, 46]
abbrev dktL_law_13 : List UInt8 := dkwL_law_13 ++ dktL_law_14
def dkwL_law_12 : List UInt8 := [148, 153, 0, 5, 3, 172, 167, 4, 88, 43, 42, 21, 4, 4, 96, 46, 42, 21, 4, 5, 96, 46, 42]
abbrev dktL_law_12 : List UInt8 := dkwL_law_12 ++ dktL_law_13
def dkwL_law_11 : List UInt8 := [54, 6, 44, 182, 0, 87, 21, 5, 159, 0, 5, 3, 172, 21, 5, 154, 0, 15, 45, 3, 47, 21, 6, 133]
abbrev dktL_law_11 : List UInt8 := dkwL_law_11 ++ dktL_law_12
def dkwL_law_10 : List UInt8 := [172, 43, 42, 21, 4, 4, 96, 46, 45, 184, 0, 103, 54, 5, 44, 42, 21, 4, 4, 96, 46, 182, 0, 105]
abbrev dktL_law_10 : List UInt8 := dkwL_law_10 ++ dktL_law_11
def dkwL_law_9 : List UInt8 := [182, 0, 95, 44, 182, 0, 98, 159, 4, 159, 3, 172, 43, 182, 0, 99, 44, 182, 0, 102, 159, 4, 146, 3]
abbrev dktL_law_9 : List UInt8 := dkwL_law_9 ++ dktL_law_10
def dkwL_law_8 : List UInt8 := [148, 153, 0, 5, 3, 172, 167, 4, 183, 43, 182, 0, 91, 44, 182, 0, 94, 159, 4, 172, 3, 172, 43]
abbrev dktL_law_8 : List UInt8 := dkwL_law_8 ++ dktL_law_9
def dkwL_law_7 : List UInt8 := [54, 6, 44, 182, 0, 87, 21, 5, 159, 0, 5, 3, 172, 21, 5, 154, 0, 15, 45, 3, 47, 21, 6, 133]
abbrev dktL_law_7 : List UInt8 := dkwL_law_7 ++ dktL_law_8
def dkwL_law_6 : List UInt8 := [172, 43, 42, 21, 4, 4, 96, 46, 45, 184, 0, 81, 54, 5, 44, 42, 21, 4, 4, 96, 46, 182, 0, 86]
abbrev dktL_law_6 : List UInt8 := dkwL_law_6 ++ dktL_law_7
def dkwL_law_5 : List UInt8 := [21, 4, 6, 96, 46, 42, 21, 4, 7, 96, 46, 42, 21, 4, 8, 96, 46, 182, 0, 80, 159, 4, 241, 3]
abbrev dktL_law_5 : List UInt8 := dkwL_law_5 ++ dktL_law_6
def dkwL_law_4 : List UInt8 := [46, 42, 21, 4, 8, 96, 46, 182, 0, 76, 44, 42, 21, 4, 4, 96, 46, 42, 21, 4, 5, 96, 46, 42]
abbrev dktL_law_4 : List UInt8 := dkwL_law_4 ++ dktL_law_5
def dkwL_law_3 : List UInt8 := [43, 42, 21, 4, 4, 96, 46, 42, 21, 4, 5, 96, 46, 42, 21, 4, 6, 96, 46, 42, 21, 4, 7, 96]
abbrev dktL_law_3 : List UInt8 := dkwL_law_3 ++ dktL_law_4
def dkwL_law_2 : List UInt8 := [170, 0, 0, 0, 0, 0, 5, 189, 0, 0, 0, 0, 0, 0, 0, 29, 0, 0, 0, 136, 0, 0, 0, 209, 0, 0, 1, 9, 0, 0, 1, 22, 0, 0, 1, 35, 0, 0, 1, 48, 0, 0, 1, 104, 0, 0, 1, 184, 0, 0, 1, 240, 0, 0, 2, 52, 0, 0, 2, 120, 0, 0, 2, 188, 0, 0, 2, 244, 0, 0, 3, 1, 0, 0, 3, 57, 0, 0, 3, 70, 0, 0, 3, 126, 0, 0, 3, 139, 0, 0, 3, 195, 0, 0, 3, 208, 0, 0, 3, 221, 0, 0, 4, 40, 0, 0, 4, 108, 0, 0, 4, 121, 0, 0, 4, 189, 0, 0, 4, 245, 0, 0, 5, 69, 0, 0, 5, 149, 0, 0, 5, 162, 0, 0, 5, 175]
abbrev dktL_law_2 : List UInt8 := dkwL_law_2 ++ dktL_law_3
def dkwL_law_1 : List UInt8 := [21, 4, 42, 190, 16, 6, 100, 163, 5, 205, 42, 21, 4, 46, 16, 31, 126]
abbrev dktL_law_1 : List UInt8 := dkwL_law_1 ++ dktL_law_2
def dkwL_law_0 : List UInt8 := [187, 0, 8, 89, 183, 0, 72, 76, 187, 0, 73, 89, 183, 0, 75, 77, 4, 188, 11, 78, 3, 54, 4]
abbrev dktL_law_0 : List UInt8 := dkwL_law_0 ++ dktL_law_1
theorem dksL_law_0 : cL_law.data.toList.drop 0 = dktL_law_0 := by decide +kernel
theorem dksL_law_1 : cL_law.data.toList.drop 23 = dktL_law_1 := dk_seg dksL_law_0 23 rfl rfl
theorem dksL_law_2 : cL_law.data.toList.drop 40 = dktL_law_2 := dk_seg dksL_law_1 17 rfl rfl
theorem dksL_law_3 : cL_law.data.toList.drop 176 = dktL_law_3 := dk_seg dksL_law_2 136 rfl rfl
theorem dksL_law_4 : cL_law.data.toList.drop 200 = dktL_law_4 := dk_seg dksL_law_3 24 rfl rfl
theorem dksL_law_5 : cL_law.data.toList.drop 224 = dktL_law_5 := dk_seg dksL_law_4 24 rfl rfl
theorem dksL_law_6 : cL_law.data.toList.drop 248 = dktL_law_6 := dk_seg dksL_law_5 24 rfl rfl
theorem dksL_law_7 : cL_law.data.toList.drop 272 = dktL_law_7 := dk_seg dksL_law_6 24 rfl rfl
theorem dksL_law_8 : cL_law.data.toList.drop 296 = dktL_law_8 := dk_seg dksL_law_7 24 rfl rfl
theorem dksL_law_9 : cL_law.data.toList.drop 319 = dktL_law_9 := dk_seg dksL_law_8 23 rfl rfl
theorem dksL_law_10 : cL_law.data.toList.drop 343 = dktL_law_10 := dk_seg dksL_law_9 24 rfl rfl
theorem dksL_law_11 : cL_law.data.toList.drop 367 = dktL_law_11 := dk_seg dksL_law_10 24 rfl rfl
theorem dksL_law_12 : cL_law.data.toList.drop 391 = dktL_law_12 := dk_seg dksL_law_11 24 rfl rfl
theorem dksL_law_13 : cL_law.data.toList.drop 414 = dktL_law_13 := dk_seg dksL_law_12 23 rfl rfl
theorem dksL_law_14 : cL_law.data.toList.drop 438 = dktL_law_14 := dk_seg dksL_law_13 24 rfl rfl
theorem dksL_law_15 : cL_law.data.toList.drop 462 = dktL_law_15 := dk_seg dksL_law_14 24 rfl rfl
theorem dksL_law_16 : cL_law.data.toList.drop 486 = dktL_law_16 := dk_seg dksL_law_15 24 rfl rfl
theorem dksL_law_17 : cL_law.data.toList.drop 509 = dktL_law_17 := dk_seg dksL_law_16 23 rfl rfl
theorem dksL_law_18 : cL_law.data.toList.drop 533 = dktL_law_18 := dk_seg dksL_law_17 24 rfl rfl
theorem dksL_law_19 : cL_law.data.toList.drop 557 = dktL_law_19 := dk_seg dksL_law_18 24 rfl rfl
theorem dksL_law_20 : cL_law.data.toList.drop 579 = dktL_law_20 := dk_seg dksL_law_19 22 rfl rfl
theorem dksL_law_21 : cL_law.data.toList.drop 601 = dktL_law_21 := dk_seg dksL_law_20 22 rfl rfl
theorem dksL_law_22 : cL_law.data.toList.drop 625 = dktL_law_22 := dk_seg dksL_law_21 24 rfl rfl
theorem dksL_law_23 : cL_law.data.toList.drop 647 = dktL_law_23 := dk_seg dksL_law_22 22 rfl rfl
theorem dksL_law_24 : cL_law.data.toList.drop 669 = dktL_law_24 := dk_seg dksL_law_23 22 rfl rfl
theorem dksL_law_25 : cL_law.data.toList.drop 693 = dktL_law_25 := dk_seg dksL_law_24 24 rfl rfl
theorem dksL_law_26 : cL_law.data.toList.drop 715 = dktL_law_26 := dk_seg dksL_law_25 22 rfl rfl
theorem dksL_law_27 : cL_law.data.toList.drop 737 = dktL_law_27 := dk_seg dksL_law_26 22 rfl rfl
theorem dksL_law_28 : cL_law.data.toList.drop 760 = dktL_law_28 := dk_seg dksL_law_27 23 rfl rfl
theorem dksL_law_29 : cL_law.data.toList.drop 784 = dktL_law_29 := dk_seg dksL_law_28 24 rfl rfl
theorem dksL_law_30 : cL_law.data.toList.drop 808 = dktL_law_30 := dk_seg dksL_law_29 24 rfl rfl
theorem dksL_law_31 : cL_law.data.toList.drop 832 = dktL_law_31 := dk_seg dksL_law_30 24 rfl rfl
theorem dksL_law_32 : cL_law.data.toList.drop 856 = dktL_law_32 := dk_seg dksL_law_31 24 rfl rfl
theorem dksL_law_33 : cL_law.data.toList.drop 880 = dktL_law_33 := dk_seg dksL_law_32 24 rfl rfl
theorem dksL_law_34 : cL_law.data.toList.drop 904 = dktL_law_34 := dk_seg dksL_law_33 24 rfl rfl
theorem dksL_law_35 : cL_law.data.toList.drop 926 = dktL_law_35 := dk_seg dksL_law_34 22 rfl rfl
theorem dksL_law_36 : cL_law.data.toList.drop 949 = dktL_law_36 := dk_seg dksL_law_35 23 rfl rfl
theorem dksL_law_37 : cL_law.data.toList.drop 973 = dktL_law_37 := dk_seg dksL_law_36 24 rfl rfl
theorem dksL_law_38 : cL_law.data.toList.drop 995 = dktL_law_38 := dk_seg dksL_law_37 22 rfl rfl
theorem dksL_law_39 : cL_law.data.toList.drop 1017 = dktL_law_39 := dk_seg dksL_law_38 22 rfl rfl
theorem dksL_law_40 : cL_law.data.toList.drop 1041 = dktL_law_40 := dk_seg dksL_law_39 24 rfl rfl
theorem dksL_law_41 : cL_law.data.toList.drop 1064 = dktL_law_41 := dk_seg dksL_law_40 23 rfl rfl
theorem dksL_law_42 : cL_law.data.toList.drop 1087 = dktL_law_42 := dk_seg dksL_law_41 23 rfl rfl
theorem dksL_law_43 : cL_law.data.toList.drop 1111 = dktL_law_43 := dk_seg dksL_law_42 24 rfl rfl
theorem dksL_law_44 : cL_law.data.toList.drop 1135 = dktL_law_44 := dk_seg dksL_law_43 24 rfl rfl
theorem dksL_law_45 : cL_law.data.toList.drop 1159 = dktL_law_45 := dk_seg dksL_law_44 24 rfl rfl
theorem dksL_law_46 : cL_law.data.toList.drop 1183 = dktL_law_46 := dk_seg dksL_law_45 24 rfl rfl
theorem dksL_law_47 : cL_law.data.toList.drop 1206 = dktL_law_47 := dk_seg dksL_law_46 23 rfl rfl
theorem dksL_law_48 : cL_law.data.toList.drop 1228 = dktL_law_48 := dk_seg dksL_law_47 22 rfl rfl
theorem dksL_law_49 : cL_law.data.toList.drop 1250 = dktL_law_49 := dk_seg dksL_law_48 22 rfl rfl
theorem dksL_law_50 : cL_law.data.toList.drop 1273 = dktL_law_50 := dk_seg dksL_law_49 23 rfl rfl
theorem dksL_law_51 : cL_law.data.toList.drop 1297 = dktL_law_51 := dk_seg dksL_law_50 24 rfl rfl
theorem dksL_law_52 : cL_law.data.toList.drop 1321 = dktL_law_52 := dk_seg dksL_law_51 24 rfl rfl
theorem dksL_law_53 : cL_law.data.toList.drop 1345 = dktL_law_53 := dk_seg dksL_law_52 24 rfl rfl
theorem dksL_law_54 : cL_law.data.toList.drop 1369 = dktL_law_54 := dk_seg dksL_law_53 24 rfl rfl
theorem dksL_law_55 : cL_law.data.toList.drop 1393 = dktL_law_55 := dk_seg dksL_law_54 24 rfl rfl
theorem dksL_law_56 : cL_law.data.toList.drop 1416 = dktL_law_56 := dk_seg dksL_law_55 23 rfl rfl
theorem dksL_law_57 : cL_law.data.toList.drop 1439 = dktL_law_57 := dk_seg dksL_law_56 23 rfl rfl
theorem dksL_law_58 : cL_law.data.toList.drop 1461 = dktL_law_58 := dk_seg dksL_law_57 22 rfl rfl
theorem dksL_law_59 : cL_law.data.toList.drop 1483 = dktL_law_59 := dk_seg dksL_law_58 22 rfl rfl
theorem dksL_law_60 : cL_law.data.toList.drop 1507 = dktL_law_60 := dk_seg dksL_law_59 24 rfl rfl
theorem dL_law_0 : decode cL_law 0 = .ok (.new 8, 3) := dk_187 0 8 (dk_at dksL_law_0 0 rfl rfl)
theorem dL_law_3 : decode cL_law 3 = .ok (.dup, 1) := dk_89 (dk_at dksL_law_0 3 rfl rfl)
theorem dL_law_4 : decode cL_law 4 = .ok (.invokespecial 72, 3) := dk_183 0 72 (dk_at dksL_law_0 4 rfl rfl)
theorem dL_law_7 : decode cL_law 7 = .ok (.astore_n 1, 1) := dk_76 (dk_at dksL_law_0 7 rfl rfl)
theorem dL_law_8 : decode cL_law 8 = .ok (.new 73, 3) := dk_187 0 73 (dk_at dksL_law_0 8 rfl rfl)
theorem dL_law_11 : decode cL_law 11 = .ok (.dup, 1) := dk_89 (dk_at dksL_law_0 11 rfl rfl)
theorem dL_law_12 : decode cL_law 12 = .ok (.invokespecial 75, 3) := dk_183 0 75 (dk_at dksL_law_0 12 rfl rfl)
theorem dL_law_15 : decode cL_law 15 = .ok (.astore_n 2, 1) := dk_77 (dk_at dksL_law_0 15 rfl rfl)
theorem dL_law_16 : decode cL_law 16 = .ok (.iconst 1, 1) := dk_4 (dk_at dksL_law_0 16 rfl rfl)
theorem dL_law_17 : decode cL_law 17 = .ok (.newarray .long, 2) := dk_188_11 (dk_at dksL_law_0 17 rfl rfl)
theorem dL_law_19 : decode cL_law 19 = .ok (.astore_n 3, 1) := dk_78 (dk_at dksL_law_0 19 rfl rfl)
theorem dL_law_20 : decode cL_law 20 = .ok (.iconst 0, 1) := dk_3 (dk_at dksL_law_0 20 rfl rfl)
theorem dL_law_21 : decode cL_law 21 = .ok (.istore 4, 2) := dk_54 4 (dk_at dksL_law_0 21 rfl rfl)
theorem dL_law_23 : decode cL_law 23 = .ok (.iload 4, 2) := dk_21 4 (dk_at dksL_law_1 0 rfl rfl)
theorem dL_law_25 : decode cL_law 25 = .ok (.aload_n 0, 1) := dk_42 (dk_at dksL_law_1 2 rfl rfl)
theorem dL_law_26 : decode cL_law 26 = .ok (.arraylength, 1) := dk_190 (dk_at dksL_law_1 3 rfl rfl)
theorem dL_law_27 : decode cL_law 27 = .ok (.bipush 6, 2) := dk_16 6 (dk_at dksL_law_1 4 rfl rfl)
theorem dL_law_29 : decode cL_law 29 = .ok (.isub, 1) := dk_100 (dk_at dksL_law_1 6 rfl rfl)
theorem dL_law_30 : decode cL_law 30 = .ok (.if_icmp .gt 1485, 3) := dk_163 5 205 (dk_at dksL_law_1 7 rfl rfl)
theorem dL_law_33 : decode cL_law 33 = .ok (.aload_n 0, 1) := dk_42 (dk_at dksL_law_1 10 rfl rfl)
theorem dL_law_34 : decode cL_law 34 = .ok (.iload 4, 2) := dk_21 4 (dk_at dksL_law_1 11 rfl rfl)
theorem dL_law_36 : decode cL_law 36 = .ok (.iaload, 1) := dk_46 (dk_at dksL_law_1 13 rfl rfl)
theorem dL_law_37 : decode cL_law 37 = .ok (.bipush 31, 2) := dk_16 31 (dk_at dksL_law_1 14 rfl rfl)
theorem dL_law_39 : decode cL_law 39 = .ok (.iand, 1) := dk_126 (dk_at dksL_law_1 16 rfl rfl)
theorem dL_law_40 : decode cL_law 40 = .ok (.tableswitch 1469 0 29 #[136, 209, 265, 278, 291, 304, 360, 440, 496, 564, 632, 700, 756, 769, 825, 838, 894, 907, 963, 976, 989, 1064, 1132, 1145, 1213, 1269, 1349, 1429, 1442, 1455], 136) := by decide +kernel
theorem dL_law_176 : decode cL_law 176 = .ok (.aload_n 1, 1) := dk_43 (dk_at dksL_law_3 0 rfl rfl)
theorem dL_law_177 : decode cL_law 177 = .ok (.aload_n 0, 1) := dk_42 (dk_at dksL_law_3 1 rfl rfl)
theorem dL_law_178 : decode cL_law 178 = .ok (.iload 4, 2) := dk_21 4 (dk_at dksL_law_3 2 rfl rfl)
theorem dL_law_180 : decode cL_law 180 = .ok (.iconst 1, 1) := dk_4 (dk_at dksL_law_3 4 rfl rfl)
theorem dL_law_181 : decode cL_law 181 = .ok (.iadd, 1) := dk_96 (dk_at dksL_law_3 5 rfl rfl)
theorem dL_law_182 : decode cL_law 182 = .ok (.iaload, 1) := dk_46 (dk_at dksL_law_3 6 rfl rfl)
theorem dL_law_183 : decode cL_law 183 = .ok (.aload_n 0, 1) := dk_42 (dk_at dksL_law_3 7 rfl rfl)
theorem dL_law_184 : decode cL_law 184 = .ok (.iload 4, 2) := dk_21 4 (dk_at dksL_law_3 8 rfl rfl)
theorem dL_law_186 : decode cL_law 186 = .ok (.iconst 2, 1) := dk_5 (dk_at dksL_law_3 10 rfl rfl)
theorem dL_law_187 : decode cL_law 187 = .ok (.iadd, 1) := dk_96 (dk_at dksL_law_3 11 rfl rfl)
theorem dL_law_188 : decode cL_law 188 = .ok (.iaload, 1) := dk_46 (dk_at dksL_law_3 12 rfl rfl)
theorem dL_law_189 : decode cL_law 189 = .ok (.aload_n 0, 1) := dk_42 (dk_at dksL_law_3 13 rfl rfl)
theorem dL_law_190 : decode cL_law 190 = .ok (.iload 4, 2) := dk_21 4 (dk_at dksL_law_3 14 rfl rfl)
theorem dL_law_192 : decode cL_law 192 = .ok (.iconst 3, 1) := dk_6 (dk_at dksL_law_3 16 rfl rfl)
theorem dL_law_193 : decode cL_law 193 = .ok (.iadd, 1) := dk_96 (dk_at dksL_law_3 17 rfl rfl)
theorem dL_law_194 : decode cL_law 194 = .ok (.iaload, 1) := dk_46 (dk_at dksL_law_3 18 rfl rfl)
theorem dL_law_195 : decode cL_law 195 = .ok (.aload_n 0, 1) := dk_42 (dk_at dksL_law_3 19 rfl rfl)
theorem dL_law_196 : decode cL_law 196 = .ok (.iload 4, 2) := dk_21 4 (dk_at dksL_law_3 20 rfl rfl)
theorem dL_law_198 : decode cL_law 198 = .ok (.iconst 4, 1) := dk_7 (dk_at dksL_law_3 22 rfl rfl)
theorem dL_law_199 : decode cL_law 199 = .ok (.iadd, 1) := dk_96 (dk_at dksL_law_3 23 rfl rfl)
theorem dL_law_200 : decode cL_law 200 = .ok (.iaload, 1) := dk_46 (dk_at dksL_law_4 0 rfl rfl)
theorem dL_law_201 : decode cL_law 201 = .ok (.aload_n 0, 1) := dk_42 (dk_at dksL_law_4 1 rfl rfl)
theorem dL_law_202 : decode cL_law 202 = .ok (.iload 4, 2) := dk_21 4 (dk_at dksL_law_4 2 rfl rfl)
theorem dL_law_204 : decode cL_law 204 = .ok (.iconst 5, 1) := dk_8 (dk_at dksL_law_4 4 rfl rfl)
theorem dL_law_205 : decode cL_law 205 = .ok (.iadd, 1) := dk_96 (dk_at dksL_law_4 5 rfl rfl)
theorem dL_law_206 : decode cL_law 206 = .ok (.iaload, 1) := dk_46 (dk_at dksL_law_4 6 rfl rfl)
theorem dL_law_207 : decode cL_law 207 = .ok (.invokevirtual 76, 3) := dk_182 0 76 (dk_at dksL_law_4 7 rfl rfl)
theorem dL_law_210 : decode cL_law 210 = .ok (.aload_n 2, 1) := dk_44 (dk_at dksL_law_4 10 rfl rfl)
theorem dL_law_211 : decode cL_law 211 = .ok (.aload_n 0, 1) := dk_42 (dk_at dksL_law_4 11 rfl rfl)
theorem dL_law_212 : decode cL_law 212 = .ok (.iload 4, 2) := dk_21 4 (dk_at dksL_law_4 12 rfl rfl)
theorem dL_law_214 : decode cL_law 214 = .ok (.iconst 1, 1) := dk_4 (dk_at dksL_law_4 14 rfl rfl)
theorem dL_law_215 : decode cL_law 215 = .ok (.iadd, 1) := dk_96 (dk_at dksL_law_4 15 rfl rfl)
theorem dL_law_216 : decode cL_law 216 = .ok (.iaload, 1) := dk_46 (dk_at dksL_law_4 16 rfl rfl)
theorem dL_law_217 : decode cL_law 217 = .ok (.aload_n 0, 1) := dk_42 (dk_at dksL_law_4 17 rfl rfl)
theorem dL_law_218 : decode cL_law 218 = .ok (.iload 4, 2) := dk_21 4 (dk_at dksL_law_4 18 rfl rfl)
theorem dL_law_220 : decode cL_law 220 = .ok (.iconst 2, 1) := dk_5 (dk_at dksL_law_4 20 rfl rfl)
theorem dL_law_221 : decode cL_law 221 = .ok (.iadd, 1) := dk_96 (dk_at dksL_law_4 21 rfl rfl)
theorem dL_law_222 : decode cL_law 222 = .ok (.iaload, 1) := dk_46 (dk_at dksL_law_4 22 rfl rfl)
theorem dL_law_223 : decode cL_law 223 = .ok (.aload_n 0, 1) := dk_42 (dk_at dksL_law_4 23 rfl rfl)
theorem dL_law_224 : decode cL_law 224 = .ok (.iload 4, 2) := dk_21 4 (dk_at dksL_law_5 0 rfl rfl)
theorem dL_law_226 : decode cL_law 226 = .ok (.iconst 3, 1) := dk_6 (dk_at dksL_law_5 2 rfl rfl)
theorem dL_law_227 : decode cL_law 227 = .ok (.iadd, 1) := dk_96 (dk_at dksL_law_5 3 rfl rfl)
theorem dL_law_228 : decode cL_law 228 = .ok (.iaload, 1) := dk_46 (dk_at dksL_law_5 4 rfl rfl)
theorem dL_law_229 : decode cL_law 229 = .ok (.aload_n 0, 1) := dk_42 (dk_at dksL_law_5 5 rfl rfl)
theorem dL_law_230 : decode cL_law 230 = .ok (.iload 4, 2) := dk_21 4 (dk_at dksL_law_5 6 rfl rfl)
theorem dL_law_232 : decode cL_law 232 = .ok (.iconst 4, 1) := dk_7 (dk_at dksL_law_5 8 rfl rfl)
theorem dL_law_233 : decode cL_law 233 = .ok (.iadd, 1) := dk_96 (dk_at dksL_law_5 9 rfl rfl)
theorem dL_law_234 : decode cL_law 234 = .ok (.iaload, 1) := dk_46 (dk_at dksL_law_5 10 rfl rfl)
theorem dL_law_235 : decode cL_law 235 = .ok (.aload_n 0, 1) := dk_42 (dk_at dksL_law_5 11 rfl rfl)
theorem dL_law_236 : decode cL_law 236 = .ok (.iload 4, 2) := dk_21 4 (dk_at dksL_law_5 12 rfl rfl)
theorem dL_law_238 : decode cL_law 238 = .ok (.iconst 5, 1) := dk_8 (dk_at dksL_law_5 14 rfl rfl)
theorem dL_law_239 : decode cL_law 239 = .ok (.iadd, 1) := dk_96 (dk_at dksL_law_5 15 rfl rfl)
theorem dL_law_240 : decode cL_law 240 = .ok (.iaload, 1) := dk_46 (dk_at dksL_law_5 16 rfl rfl)
theorem dL_law_241 : decode cL_law 241 = .ok (.invokevirtual 80, 3) := dk_182 0 80 (dk_at dksL_law_5 17 rfl rfl)
theorem dL_law_244 : decode cL_law 244 = .ok (.if_icmp .eq 1265, 3) := dk_159 4 241 (dk_at dksL_law_5 20 rfl rfl)
theorem dL_law_247 : decode cL_law 247 = .ok (.iconst 0, 1) := dk_3 (dk_at dksL_law_5 23 rfl rfl)
theorem dL_law_248 : decode cL_law 248 = .ok (.ireturn, 1) := dk_172 (dk_at dksL_law_6 0 rfl rfl)
theorem dL_law_249 : decode cL_law 249 = .ok (.aload_n 1, 1) := dk_43 (dk_at dksL_law_6 1 rfl rfl)
theorem dL_law_250 : decode cL_law 250 = .ok (.aload_n 0, 1) := dk_42 (dk_at dksL_law_6 2 rfl rfl)
theorem dL_law_251 : decode cL_law 251 = .ok (.iload 4, 2) := dk_21 4 (dk_at dksL_law_6 3 rfl rfl)
theorem dL_law_253 : decode cL_law 253 = .ok (.iconst 1, 1) := dk_4 (dk_at dksL_law_6 5 rfl rfl)
theorem dL_law_254 : decode cL_law 254 = .ok (.iadd, 1) := dk_96 (dk_at dksL_law_6 6 rfl rfl)
theorem dL_law_255 : decode cL_law 255 = .ok (.iaload, 1) := dk_46 (dk_at dksL_law_6 7 rfl rfl)
theorem dL_law_256 : decode cL_law 256 = .ok (.aload_n 3, 1) := dk_45 (dk_at dksL_law_6 8 rfl rfl)
theorem dL_law_257 : decode cL_law 257 = .ok (.invokestatic 81, 3) := dk_184 0 81 (dk_at dksL_law_6 9 rfl rfl)
theorem dL_law_260 : decode cL_law 260 = .ok (.istore 5, 2) := dk_54 5 (dk_at dksL_law_6 12 rfl rfl)
theorem dL_law_262 : decode cL_law 262 = .ok (.aload_n 2, 1) := dk_44 (dk_at dksL_law_6 14 rfl rfl)
theorem dL_law_263 : decode cL_law 263 = .ok (.aload_n 0, 1) := dk_42 (dk_at dksL_law_6 15 rfl rfl)
theorem dL_law_264 : decode cL_law 264 = .ok (.iload 4, 2) := dk_21 4 (dk_at dksL_law_6 16 rfl rfl)
theorem dL_law_266 : decode cL_law 266 = .ok (.iconst 1, 1) := dk_4 (dk_at dksL_law_6 18 rfl rfl)
theorem dL_law_267 : decode cL_law 267 = .ok (.iadd, 1) := dk_96 (dk_at dksL_law_6 19 rfl rfl)
theorem dL_law_268 : decode cL_law 268 = .ok (.iaload, 1) := dk_46 (dk_at dksL_law_6 20 rfl rfl)
theorem dL_law_269 : decode cL_law 269 = .ok (.invokevirtual 86, 3) := dk_182 0 86 (dk_at dksL_law_6 21 rfl rfl)
theorem dL_law_272 : decode cL_law 272 = .ok (.istore 6, 2) := dk_54 6 (dk_at dksL_law_7 0 rfl rfl)
theorem dL_law_274 : decode cL_law 274 = .ok (.aload_n 2, 1) := dk_44 (dk_at dksL_law_7 2 rfl rfl)
theorem dL_law_275 : decode cL_law 275 = .ok (.invokevirtual 87, 3) := dk_182 0 87 (dk_at dksL_law_7 3 rfl rfl)
theorem dL_law_278 : decode cL_law 278 = .ok (.iload 5, 2) := dk_21 5 (dk_at dksL_law_7 6 rfl rfl)
theorem dL_law_280 : decode cL_law 280 = .ok (.if_icmp .eq 5, 3) := dk_159 0 5 (dk_at dksL_law_7 8 rfl rfl)
theorem dL_law_283 : decode cL_law 283 = .ok (.iconst 0, 1) := dk_3 (dk_at dksL_law_7 11 rfl rfl)
theorem dL_law_284 : decode cL_law 284 = .ok (.ireturn, 1) := dk_172 (dk_at dksL_law_7 12 rfl rfl)
theorem dL_law_285 : decode cL_law 285 = .ok (.iload 5, 2) := dk_21 5 (dk_at dksL_law_7 13 rfl rfl)
theorem dL_law_287 : decode cL_law 287 = .ok (.ifCond .ne 15, 3) := dk_154 0 15 (dk_at dksL_law_7 15 rfl rfl)
theorem dL_law_290 : decode cL_law 290 = .ok (.aload_n 3, 1) := dk_45 (dk_at dksL_law_7 18 rfl rfl)
theorem dL_law_291 : decode cL_law 291 = .ok (.iconst 0, 1) := dk_3 (dk_at dksL_law_7 19 rfl rfl)
theorem dL_law_292 : decode cL_law 292 = .ok (.laload, 1) := dk_47 (dk_at dksL_law_7 20 rfl rfl)
theorem dL_law_293 : decode cL_law 293 = .ok (.iload 6, 2) := dk_21 6 (dk_at dksL_law_7 21 rfl rfl)
theorem dL_law_295 : decode cL_law 295 = .ok (.i2l, 1) := dk_133 (dk_at dksL_law_7 23 rfl rfl)
theorem dL_law_296 : decode cL_law 296 = .ok (.lcmp, 1) := dk_148 (dk_at dksL_law_8 0 rfl rfl)
theorem dL_law_297 : decode cL_law 297 = .ok (.ifCond .eq 5, 3) := dk_153 0 5 (dk_at dksL_law_8 1 rfl rfl)
theorem dL_law_300 : decode cL_law 300 = .ok (.iconst 0, 1) := dk_3 (dk_at dksL_law_8 4 rfl rfl)
theorem dL_law_301 : decode cL_law 301 = .ok (.ireturn, 1) := dk_172 (dk_at dksL_law_8 5 rfl rfl)
theorem dL_law_302 : decode cL_law 302 = .ok (.goto 1207, 3) := dk_167 4 183 (dk_at dksL_law_8 6 rfl rfl)
theorem dL_law_305 : decode cL_law 305 = .ok (.aload_n 1, 1) := dk_43 (dk_at dksL_law_8 9 rfl rfl)
theorem dL_law_306 : decode cL_law 306 = .ok (.invokevirtual 91, 3) := dk_182 0 91 (dk_at dksL_law_8 10 rfl rfl)
theorem dL_law_309 : decode cL_law 309 = .ok (.aload_n 2, 1) := dk_44 (dk_at dksL_law_8 13 rfl rfl)
theorem dL_law_310 : decode cL_law 310 = .ok (.invokevirtual 94, 3) := dk_182 0 94 (dk_at dksL_law_8 14 rfl rfl)
theorem dL_law_313 : decode cL_law 313 = .ok (.if_icmp .eq 1196, 3) := dk_159 4 172 (dk_at dksL_law_8 17 rfl rfl)
theorem dL_law_316 : decode cL_law 316 = .ok (.iconst 0, 1) := dk_3 (dk_at dksL_law_8 20 rfl rfl)
theorem dL_law_317 : decode cL_law 317 = .ok (.ireturn, 1) := dk_172 (dk_at dksL_law_8 21 rfl rfl)
theorem dL_law_318 : decode cL_law 318 = .ok (.aload_n 1, 1) := dk_43 (dk_at dksL_law_8 22 rfl rfl)
theorem dL_law_319 : decode cL_law 319 = .ok (.invokevirtual 95, 3) := dk_182 0 95 (dk_at dksL_law_9 0 rfl rfl)
theorem dL_law_322 : decode cL_law 322 = .ok (.aload_n 2, 1) := dk_44 (dk_at dksL_law_9 3 rfl rfl)
theorem dL_law_323 : decode cL_law 323 = .ok (.invokevirtual 98, 3) := dk_182 0 98 (dk_at dksL_law_9 4 rfl rfl)
theorem dL_law_326 : decode cL_law 326 = .ok (.if_icmp .eq 1183, 3) := dk_159 4 159 (dk_at dksL_law_9 7 rfl rfl)
theorem dL_law_329 : decode cL_law 329 = .ok (.iconst 0, 1) := dk_3 (dk_at dksL_law_9 10 rfl rfl)
theorem dL_law_330 : decode cL_law 330 = .ok (.ireturn, 1) := dk_172 (dk_at dksL_law_9 11 rfl rfl)
theorem dL_law_331 : decode cL_law 331 = .ok (.aload_n 1, 1) := dk_43 (dk_at dksL_law_9 12 rfl rfl)
theorem dL_law_332 : decode cL_law 332 = .ok (.invokevirtual 99, 3) := dk_182 0 99 (dk_at dksL_law_9 13 rfl rfl)
theorem dL_law_335 : decode cL_law 335 = .ok (.aload_n 2, 1) := dk_44 (dk_at dksL_law_9 16 rfl rfl)
theorem dL_law_336 : decode cL_law 336 = .ok (.invokevirtual 102, 3) := dk_182 0 102 (dk_at dksL_law_9 17 rfl rfl)
theorem dL_law_339 : decode cL_law 339 = .ok (.if_icmp .eq 1170, 3) := dk_159 4 146 (dk_at dksL_law_9 20 rfl rfl)
theorem dL_law_342 : decode cL_law 342 = .ok (.iconst 0, 1) := dk_3 (dk_at dksL_law_9 23 rfl rfl)
theorem dL_law_343 : decode cL_law 343 = .ok (.ireturn, 1) := dk_172 (dk_at dksL_law_10 0 rfl rfl)
theorem dL_law_344 : decode cL_law 344 = .ok (.aload_n 1, 1) := dk_43 (dk_at dksL_law_10 1 rfl rfl)
theorem dL_law_345 : decode cL_law 345 = .ok (.aload_n 0, 1) := dk_42 (dk_at dksL_law_10 2 rfl rfl)
theorem dL_law_346 : decode cL_law 346 = .ok (.iload 4, 2) := dk_21 4 (dk_at dksL_law_10 3 rfl rfl)
theorem dL_law_348 : decode cL_law 348 = .ok (.iconst 1, 1) := dk_4 (dk_at dksL_law_10 5 rfl rfl)
theorem dL_law_349 : decode cL_law 349 = .ok (.iadd, 1) := dk_96 (dk_at dksL_law_10 6 rfl rfl)
theorem dL_law_350 : decode cL_law 350 = .ok (.iaload, 1) := dk_46 (dk_at dksL_law_10 7 rfl rfl)
theorem dL_law_351 : decode cL_law 351 = .ok (.aload_n 3, 1) := dk_45 (dk_at dksL_law_10 8 rfl rfl)
theorem dL_law_352 : decode cL_law 352 = .ok (.invokestatic 103, 3) := dk_184 0 103 (dk_at dksL_law_10 9 rfl rfl)
theorem dL_law_355 : decode cL_law 355 = .ok (.istore 5, 2) := dk_54 5 (dk_at dksL_law_10 12 rfl rfl)
theorem dL_law_357 : decode cL_law 357 = .ok (.aload_n 2, 1) := dk_44 (dk_at dksL_law_10 14 rfl rfl)
theorem dL_law_358 : decode cL_law 358 = .ok (.aload_n 0, 1) := dk_42 (dk_at dksL_law_10 15 rfl rfl)
theorem dL_law_359 : decode cL_law 359 = .ok (.iload 4, 2) := dk_21 4 (dk_at dksL_law_10 16 rfl rfl)
theorem dL_law_361 : decode cL_law 361 = .ok (.iconst 1, 1) := dk_4 (dk_at dksL_law_10 18 rfl rfl)
theorem dL_law_362 : decode cL_law 362 = .ok (.iadd, 1) := dk_96 (dk_at dksL_law_10 19 rfl rfl)
theorem dL_law_363 : decode cL_law 363 = .ok (.iaload, 1) := dk_46 (dk_at dksL_law_10 20 rfl rfl)
theorem dL_law_364 : decode cL_law 364 = .ok (.invokevirtual 105, 3) := dk_182 0 105 (dk_at dksL_law_10 21 rfl rfl)
theorem dL_law_367 : decode cL_law 367 = .ok (.istore 6, 2) := dk_54 6 (dk_at dksL_law_11 0 rfl rfl)
theorem dL_law_369 : decode cL_law 369 = .ok (.aload_n 2, 1) := dk_44 (dk_at dksL_law_11 2 rfl rfl)
theorem dL_law_370 : decode cL_law 370 = .ok (.invokevirtual 87, 3) := dk_182 0 87 (dk_at dksL_law_11 3 rfl rfl)
theorem dL_law_373 : decode cL_law 373 = .ok (.iload 5, 2) := dk_21 5 (dk_at dksL_law_11 6 rfl rfl)
theorem dL_law_375 : decode cL_law 375 = .ok (.if_icmp .eq 5, 3) := dk_159 0 5 (dk_at dksL_law_11 8 rfl rfl)
theorem dL_law_378 : decode cL_law 378 = .ok (.iconst 0, 1) := dk_3 (dk_at dksL_law_11 11 rfl rfl)
theorem dL_law_379 : decode cL_law 379 = .ok (.ireturn, 1) := dk_172 (dk_at dksL_law_11 12 rfl rfl)
theorem dL_law_380 : decode cL_law 380 = .ok (.iload 5, 2) := dk_21 5 (dk_at dksL_law_11 13 rfl rfl)
theorem dL_law_382 : decode cL_law 382 = .ok (.ifCond .ne 15, 3) := dk_154 0 15 (dk_at dksL_law_11 15 rfl rfl)
theorem dL_law_385 : decode cL_law 385 = .ok (.aload_n 3, 1) := dk_45 (dk_at dksL_law_11 18 rfl rfl)
theorem dL_law_386 : decode cL_law 386 = .ok (.iconst 0, 1) := dk_3 (dk_at dksL_law_11 19 rfl rfl)
theorem dL_law_387 : decode cL_law 387 = .ok (.laload, 1) := dk_47 (dk_at dksL_law_11 20 rfl rfl)
theorem dL_law_388 : decode cL_law 388 = .ok (.iload 6, 2) := dk_21 6 (dk_at dksL_law_11 21 rfl rfl)
theorem dL_law_390 : decode cL_law 390 = .ok (.i2l, 1) := dk_133 (dk_at dksL_law_11 23 rfl rfl)
theorem dL_law_391 : decode cL_law 391 = .ok (.lcmp, 1) := dk_148 (dk_at dksL_law_12 0 rfl rfl)
theorem dL_law_392 : decode cL_law 392 = .ok (.ifCond .eq 5, 3) := dk_153 0 5 (dk_at dksL_law_12 1 rfl rfl)
theorem dL_law_395 : decode cL_law 395 = .ok (.iconst 0, 1) := dk_3 (dk_at dksL_law_12 4 rfl rfl)
theorem dL_law_396 : decode cL_law 396 = .ok (.ireturn, 1) := dk_172 (dk_at dksL_law_12 5 rfl rfl)
theorem dL_law_397 : decode cL_law 397 = .ok (.goto 1112, 3) := dk_167 4 88 (dk_at dksL_law_12 6 rfl rfl)
theorem dL_law_400 : decode cL_law 400 = .ok (.aload_n 1, 1) := dk_43 (dk_at dksL_law_12 9 rfl rfl)
theorem dL_law_401 : decode cL_law 401 = .ok (.aload_n 0, 1) := dk_42 (dk_at dksL_law_12 10 rfl rfl)
theorem dL_law_402 : decode cL_law 402 = .ok (.iload 4, 2) := dk_21 4 (dk_at dksL_law_12 11 rfl rfl)
theorem dL_law_404 : decode cL_law 404 = .ok (.iconst 1, 1) := dk_4 (dk_at dksL_law_12 13 rfl rfl)
theorem dL_law_405 : decode cL_law 405 = .ok (.iadd, 1) := dk_96 (dk_at dksL_law_12 14 rfl rfl)
theorem dL_law_406 : decode cL_law 406 = .ok (.iaload, 1) := dk_46 (dk_at dksL_law_12 15 rfl rfl)
theorem dL_law_407 : decode cL_law 407 = .ok (.aload_n 0, 1) := dk_42 (dk_at dksL_law_12 16 rfl rfl)
theorem dL_law_408 : decode cL_law 408 = .ok (.iload 4, 2) := dk_21 4 (dk_at dksL_law_12 17 rfl rfl)
theorem dL_law_410 : decode cL_law 410 = .ok (.iconst 2, 1) := dk_5 (dk_at dksL_law_12 19 rfl rfl)
theorem dL_law_411 : decode cL_law 411 = .ok (.iadd, 1) := dk_96 (dk_at dksL_law_12 20 rfl rfl)
theorem dL_law_412 : decode cL_law 412 = .ok (.iaload, 1) := dk_46 (dk_at dksL_law_12 21 rfl rfl)
theorem dL_law_413 : decode cL_law 413 = .ok (.aload_n 0, 1) := dk_42 (dk_at dksL_law_12 22 rfl rfl)
theorem dL_law_414 : decode cL_law 414 = .ok (.iload 4, 2) := dk_21 4 (dk_at dksL_law_13 0 rfl rfl)
theorem dL_law_416 : decode cL_law 416 = .ok (.iconst 3, 1) := dk_6 (dk_at dksL_law_13 2 rfl rfl)
theorem dL_law_417 : decode cL_law 417 = .ok (.iadd, 1) := dk_96 (dk_at dksL_law_13 3 rfl rfl)
theorem dL_law_418 : decode cL_law 418 = .ok (.iaload, 1) := dk_46 (dk_at dksL_law_13 4 rfl rfl)
theorem dL_law_419 : decode cL_law 419 = .ok (.aload_n 3, 1) := dk_45 (dk_at dksL_law_13 5 rfl rfl)
theorem dL_law_420 : decode cL_law 420 = .ok (.invokestatic 106, 3) := dk_184 0 106 (dk_at dksL_law_13 6 rfl rfl)
theorem dL_law_423 : decode cL_law 423 = .ok (.istore 5, 2) := dk_54 5 (dk_at dksL_law_13 9 rfl rfl)
theorem dL_law_425 : decode cL_law 425 = .ok (.aload_n 2, 1) := dk_44 (dk_at dksL_law_13 11 rfl rfl)
theorem dL_law_426 : decode cL_law 426 = .ok (.aload_n 0, 1) := dk_42 (dk_at dksL_law_13 12 rfl rfl)
theorem dL_law_427 : decode cL_law 427 = .ok (.iload 4, 2) := dk_21 4 (dk_at dksL_law_13 13 rfl rfl)
theorem dL_law_429 : decode cL_law 429 = .ok (.iconst 1, 1) := dk_4 (dk_at dksL_law_13 15 rfl rfl)
theorem dL_law_430 : decode cL_law 430 = .ok (.iadd, 1) := dk_96 (dk_at dksL_law_13 16 rfl rfl)
theorem dL_law_431 : decode cL_law 431 = .ok (.iaload, 1) := dk_46 (dk_at dksL_law_13 17 rfl rfl)
theorem dL_law_432 : decode cL_law 432 = .ok (.aload_n 0, 1) := dk_42 (dk_at dksL_law_13 18 rfl rfl)
theorem dL_law_433 : decode cL_law 433 = .ok (.iload 4, 2) := dk_21 4 (dk_at dksL_law_13 19 rfl rfl)
theorem dL_law_435 : decode cL_law 435 = .ok (.iconst 2, 1) := dk_5 (dk_at dksL_law_13 21 rfl rfl)
theorem dL_law_436 : decode cL_law 436 = .ok (.iadd, 1) := dk_96 (dk_at dksL_law_13 22 rfl rfl)
theorem dL_law_437 : decode cL_law 437 = .ok (.iaload, 1) := dk_46 (dk_at dksL_law_13 23 rfl rfl)
theorem dL_law_438 : decode cL_law 438 = .ok (.aload_n 0, 1) := dk_42 (dk_at dksL_law_14 0 rfl rfl)
theorem dL_law_439 : decode cL_law 439 = .ok (.iload 4, 2) := dk_21 4 (dk_at dksL_law_14 1 rfl rfl)
theorem dL_law_441 : decode cL_law 441 = .ok (.iconst 3, 1) := dk_6 (dk_at dksL_law_14 3 rfl rfl)
theorem dL_law_442 : decode cL_law 442 = .ok (.iadd, 1) := dk_96 (dk_at dksL_law_14 4 rfl rfl)
theorem dL_law_443 : decode cL_law 443 = .ok (.iaload, 1) := dk_46 (dk_at dksL_law_14 5 rfl rfl)
theorem dL_law_444 : decode cL_law 444 = .ok (.invokevirtual 109, 3) := dk_182 0 109 (dk_at dksL_law_14 6 rfl rfl)
theorem dL_law_447 : decode cL_law 447 = .ok (.istore 6, 2) := dk_54 6 (dk_at dksL_law_14 9 rfl rfl)
theorem dL_law_449 : decode cL_law 449 = .ok (.aload_n 2, 1) := dk_44 (dk_at dksL_law_14 11 rfl rfl)
theorem dL_law_450 : decode cL_law 450 = .ok (.invokevirtual 87, 3) := dk_182 0 87 (dk_at dksL_law_14 12 rfl rfl)
theorem dL_law_453 : decode cL_law 453 = .ok (.iload 5, 2) := dk_21 5 (dk_at dksL_law_14 15 rfl rfl)
theorem dL_law_455 : decode cL_law 455 = .ok (.if_icmp .eq 5, 3) := dk_159 0 5 (dk_at dksL_law_14 17 rfl rfl)
theorem dL_law_458 : decode cL_law 458 = .ok (.iconst 0, 1) := dk_3 (dk_at dksL_law_14 20 rfl rfl)
theorem dL_law_459 : decode cL_law 459 = .ok (.ireturn, 1) := dk_172 (dk_at dksL_law_14 21 rfl rfl)
theorem dL_law_460 : decode cL_law 460 = .ok (.iload 5, 2) := dk_21 5 (dk_at dksL_law_14 22 rfl rfl)
theorem dL_law_462 : decode cL_law 462 = .ok (.ifCond .ne 15, 3) := dk_154 0 15 (dk_at dksL_law_15 0 rfl rfl)
theorem dL_law_465 : decode cL_law 465 = .ok (.aload_n 3, 1) := dk_45 (dk_at dksL_law_15 3 rfl rfl)
theorem dL_law_466 : decode cL_law 466 = .ok (.iconst 0, 1) := dk_3 (dk_at dksL_law_15 4 rfl rfl)
theorem dL_law_467 : decode cL_law 467 = .ok (.laload, 1) := dk_47 (dk_at dksL_law_15 5 rfl rfl)
theorem dL_law_468 : decode cL_law 468 = .ok (.iload 6, 2) := dk_21 6 (dk_at dksL_law_15 6 rfl rfl)
theorem dL_law_470 : decode cL_law 470 = .ok (.i2l, 1) := dk_133 (dk_at dksL_law_15 8 rfl rfl)
theorem dL_law_471 : decode cL_law 471 = .ok (.lcmp, 1) := dk_148 (dk_at dksL_law_15 9 rfl rfl)
theorem dL_law_472 : decode cL_law 472 = .ok (.ifCond .eq 5, 3) := dk_153 0 5 (dk_at dksL_law_15 10 rfl rfl)
theorem dL_law_475 : decode cL_law 475 = .ok (.iconst 0, 1) := dk_3 (dk_at dksL_law_15 13 rfl rfl)
theorem dL_law_476 : decode cL_law 476 = .ok (.ireturn, 1) := dk_172 (dk_at dksL_law_15 14 rfl rfl)
theorem dL_law_477 : decode cL_law 477 = .ok (.goto 1032, 3) := dk_167 4 8 (dk_at dksL_law_15 15 rfl rfl)
theorem dL_law_480 : decode cL_law 480 = .ok (.aload_n 1, 1) := dk_43 (dk_at dksL_law_15 18 rfl rfl)
theorem dL_law_481 : decode cL_law 481 = .ok (.aload_n 0, 1) := dk_42 (dk_at dksL_law_15 19 rfl rfl)
theorem dL_law_482 : decode cL_law 482 = .ok (.iload 4, 2) := dk_21 4 (dk_at dksL_law_15 20 rfl rfl)
theorem dL_law_484 : decode cL_law 484 = .ok (.iconst 1, 1) := dk_4 (dk_at dksL_law_15 22 rfl rfl)
theorem dL_law_485 : decode cL_law 485 = .ok (.iadd, 1) := dk_96 (dk_at dksL_law_15 23 rfl rfl)
theorem dL_law_486 : decode cL_law 486 = .ok (.iaload, 1) := dk_46 (dk_at dksL_law_16 0 rfl rfl)
theorem dL_law_487 : decode cL_law 487 = .ok (.aload_n 3, 1) := dk_45 (dk_at dksL_law_16 1 rfl rfl)
theorem dL_law_488 : decode cL_law 488 = .ok (.invokestatic 110, 3) := dk_184 0 110 (dk_at dksL_law_16 2 rfl rfl)
theorem dL_law_491 : decode cL_law 491 = .ok (.istore 5, 2) := dk_54 5 (dk_at dksL_law_16 5 rfl rfl)
theorem dL_law_493 : decode cL_law 493 = .ok (.aload_n 2, 1) := dk_44 (dk_at dksL_law_16 7 rfl rfl)
theorem dL_law_494 : decode cL_law 494 = .ok (.aload_n 0, 1) := dk_42 (dk_at dksL_law_16 8 rfl rfl)
theorem dL_law_495 : decode cL_law 495 = .ok (.iload 4, 2) := dk_21 4 (dk_at dksL_law_16 9 rfl rfl)
theorem dL_law_497 : decode cL_law 497 = .ok (.iconst 1, 1) := dk_4 (dk_at dksL_law_16 11 rfl rfl)
theorem dL_law_498 : decode cL_law 498 = .ok (.iadd, 1) := dk_96 (dk_at dksL_law_16 12 rfl rfl)
theorem dL_law_499 : decode cL_law 499 = .ok (.iaload, 1) := dk_46 (dk_at dksL_law_16 13 rfl rfl)
theorem dL_law_500 : decode cL_law 500 = .ok (.invokevirtual 112, 3) := dk_182 0 112 (dk_at dksL_law_16 14 rfl rfl)
theorem dL_law_503 : decode cL_law 503 = .ok (.istore 6, 2) := dk_54 6 (dk_at dksL_law_16 17 rfl rfl)
theorem dL_law_505 : decode cL_law 505 = .ok (.aload_n 2, 1) := dk_44 (dk_at dksL_law_16 19 rfl rfl)
theorem dL_law_506 : decode cL_law 506 = .ok (.invokevirtual 87, 3) := dk_182 0 87 (dk_at dksL_law_16 20 rfl rfl)
theorem dL_law_509 : decode cL_law 509 = .ok (.iload 5, 2) := dk_21 5 (dk_at dksL_law_17 0 rfl rfl)
theorem dL_law_511 : decode cL_law 511 = .ok (.if_icmp .eq 5, 3) := dk_159 0 5 (dk_at dksL_law_17 2 rfl rfl)
theorem dL_law_514 : decode cL_law 514 = .ok (.iconst 0, 1) := dk_3 (dk_at dksL_law_17 5 rfl rfl)
theorem dL_law_515 : decode cL_law 515 = .ok (.ireturn, 1) := dk_172 (dk_at dksL_law_17 6 rfl rfl)
theorem dL_law_516 : decode cL_law 516 = .ok (.iload 5, 2) := dk_21 5 (dk_at dksL_law_17 7 rfl rfl)
theorem dL_law_518 : decode cL_law 518 = .ok (.ifCond .ne 15, 3) := dk_154 0 15 (dk_at dksL_law_17 9 rfl rfl)
theorem dL_law_521 : decode cL_law 521 = .ok (.aload_n 3, 1) := dk_45 (dk_at dksL_law_17 12 rfl rfl)
theorem dL_law_522 : decode cL_law 522 = .ok (.iconst 0, 1) := dk_3 (dk_at dksL_law_17 13 rfl rfl)
theorem dL_law_523 : decode cL_law 523 = .ok (.laload, 1) := dk_47 (dk_at dksL_law_17 14 rfl rfl)
theorem dL_law_524 : decode cL_law 524 = .ok (.iload 6, 2) := dk_21 6 (dk_at dksL_law_17 15 rfl rfl)
theorem dL_law_526 : decode cL_law 526 = .ok (.i2l, 1) := dk_133 (dk_at dksL_law_17 17 rfl rfl)
theorem dL_law_527 : decode cL_law 527 = .ok (.lcmp, 1) := dk_148 (dk_at dksL_law_17 18 rfl rfl)
theorem dL_law_528 : decode cL_law 528 = .ok (.ifCond .eq 5, 3) := dk_153 0 5 (dk_at dksL_law_17 19 rfl rfl)
theorem dL_law_531 : decode cL_law 531 = .ok (.iconst 0, 1) := dk_3 (dk_at dksL_law_17 22 rfl rfl)
theorem dL_law_532 : decode cL_law 532 = .ok (.ireturn, 1) := dk_172 (dk_at dksL_law_17 23 rfl rfl)
theorem dL_law_533 : decode cL_law 533 = .ok (.goto 976, 3) := dk_167 3 208 (dk_at dksL_law_18 0 rfl rfl)
theorem dL_law_536 : decode cL_law 536 = .ok (.aload_n 1, 1) := dk_43 (dk_at dksL_law_18 3 rfl rfl)
theorem dL_law_537 : decode cL_law 537 = .ok (.aload_n 0, 1) := dk_42 (dk_at dksL_law_18 4 rfl rfl)
theorem dL_law_538 : decode cL_law 538 = .ok (.iload 4, 2) := dk_21 4 (dk_at dksL_law_18 5 rfl rfl)
theorem dL_law_540 : decode cL_law 540 = .ok (.iconst 1, 1) := dk_4 (dk_at dksL_law_18 7 rfl rfl)
theorem dL_law_541 : decode cL_law 541 = .ok (.iadd, 1) := dk_96 (dk_at dksL_law_18 8 rfl rfl)
theorem dL_law_542 : decode cL_law 542 = .ok (.iaload, 1) := dk_46 (dk_at dksL_law_18 9 rfl rfl)
theorem dL_law_543 : decode cL_law 543 = .ok (.aload_n 0, 1) := dk_42 (dk_at dksL_law_18 10 rfl rfl)
theorem dL_law_544 : decode cL_law 544 = .ok (.iload 4, 2) := dk_21 4 (dk_at dksL_law_18 11 rfl rfl)
theorem dL_law_546 : decode cL_law 546 = .ok (.iconst 2, 1) := dk_5 (dk_at dksL_law_18 13 rfl rfl)
theorem dL_law_547 : decode cL_law 547 = .ok (.iadd, 1) := dk_96 (dk_at dksL_law_18 14 rfl rfl)
theorem dL_law_548 : decode cL_law 548 = .ok (.iaload, 1) := dk_46 (dk_at dksL_law_18 15 rfl rfl)
theorem dL_law_549 : decode cL_law 549 = .ok (.aload_n 3, 1) := dk_45 (dk_at dksL_law_18 16 rfl rfl)
theorem dL_law_550 : decode cL_law 550 = .ok (.invokestatic 113, 3) := dk_184 0 113 (dk_at dksL_law_18 17 rfl rfl)
theorem dL_law_553 : decode cL_law 553 = .ok (.istore 5, 2) := dk_54 5 (dk_at dksL_law_18 20 rfl rfl)
theorem dL_law_555 : decode cL_law 555 = .ok (.aload_n 2, 1) := dk_44 (dk_at dksL_law_18 22 rfl rfl)
theorem dL_law_556 : decode cL_law 556 = .ok (.aload_n 0, 1) := dk_42 (dk_at dksL_law_18 23 rfl rfl)
theorem dL_law_557 : decode cL_law 557 = .ok (.iload 4, 2) := dk_21 4 (dk_at dksL_law_19 0 rfl rfl)
theorem dL_law_559 : decode cL_law 559 = .ok (.iconst 1, 1) := dk_4 (dk_at dksL_law_19 2 rfl rfl)
theorem dL_law_560 : decode cL_law 560 = .ok (.iadd, 1) := dk_96 (dk_at dksL_law_19 3 rfl rfl)
theorem dL_law_561 : decode cL_law 561 = .ok (.iaload, 1) := dk_46 (dk_at dksL_law_19 4 rfl rfl)
theorem dL_law_562 : decode cL_law 562 = .ok (.aload_n 0, 1) := dk_42 (dk_at dksL_law_19 5 rfl rfl)
theorem dL_law_563 : decode cL_law 563 = .ok (.iload 4, 2) := dk_21 4 (dk_at dksL_law_19 6 rfl rfl)
theorem dL_law_565 : decode cL_law 565 = .ok (.iconst 2, 1) := dk_5 (dk_at dksL_law_19 8 rfl rfl)
theorem dL_law_566 : decode cL_law 566 = .ok (.iadd, 1) := dk_96 (dk_at dksL_law_19 9 rfl rfl)
theorem dL_law_567 : decode cL_law 567 = .ok (.iaload, 1) := dk_46 (dk_at dksL_law_19 10 rfl rfl)
theorem dL_law_568 : decode cL_law 568 = .ok (.invokevirtual 116, 3) := dk_182 0 116 (dk_at dksL_law_19 11 rfl rfl)
theorem dL_law_571 : decode cL_law 571 = .ok (.istore 6, 2) := dk_54 6 (dk_at dksL_law_19 14 rfl rfl)
theorem dL_law_573 : decode cL_law 573 = .ok (.aload_n 2, 1) := dk_44 (dk_at dksL_law_19 16 rfl rfl)
theorem dL_law_574 : decode cL_law 574 = .ok (.invokevirtual 87, 3) := dk_182 0 87 (dk_at dksL_law_19 17 rfl rfl)
theorem dL_law_577 : decode cL_law 577 = .ok (.iload 5, 2) := dk_21 5 (dk_at dksL_law_19 20 rfl rfl)
theorem dL_law_579 : decode cL_law 579 = .ok (.if_icmp .eq 5, 3) := dk_159 0 5 (dk_at dksL_law_20 0 rfl rfl)
theorem dL_law_582 : decode cL_law 582 = .ok (.iconst 0, 1) := dk_3 (dk_at dksL_law_20 3 rfl rfl)
theorem dL_law_583 : decode cL_law 583 = .ok (.ireturn, 1) := dk_172 (dk_at dksL_law_20 4 rfl rfl)
theorem dL_law_584 : decode cL_law 584 = .ok (.iload 5, 2) := dk_21 5 (dk_at dksL_law_20 5 rfl rfl)
theorem dL_law_586 : decode cL_law 586 = .ok (.ifCond .ne 15, 3) := dk_154 0 15 (dk_at dksL_law_20 7 rfl rfl)
theorem dL_law_589 : decode cL_law 589 = .ok (.aload_n 3, 1) := dk_45 (dk_at dksL_law_20 10 rfl rfl)
theorem dL_law_590 : decode cL_law 590 = .ok (.iconst 0, 1) := dk_3 (dk_at dksL_law_20 11 rfl rfl)
theorem dL_law_591 : decode cL_law 591 = .ok (.laload, 1) := dk_47 (dk_at dksL_law_20 12 rfl rfl)
theorem dL_law_592 : decode cL_law 592 = .ok (.iload 6, 2) := dk_21 6 (dk_at dksL_law_20 13 rfl rfl)
theorem dL_law_594 : decode cL_law 594 = .ok (.i2l, 1) := dk_133 (dk_at dksL_law_20 15 rfl rfl)
theorem dL_law_595 : decode cL_law 595 = .ok (.lcmp, 1) := dk_148 (dk_at dksL_law_20 16 rfl rfl)
theorem dL_law_596 : decode cL_law 596 = .ok (.ifCond .eq 5, 3) := dk_153 0 5 (dk_at dksL_law_20 17 rfl rfl)
theorem dL_law_599 : decode cL_law 599 = .ok (.iconst 0, 1) := dk_3 (dk_at dksL_law_20 20 rfl rfl)
theorem dL_law_600 : decode cL_law 600 = .ok (.ireturn, 1) := dk_172 (dk_at dksL_law_20 21 rfl rfl)
theorem dL_law_601 : decode cL_law 601 = .ok (.goto 908, 3) := dk_167 3 140 (dk_at dksL_law_21 0 rfl rfl)
theorem dL_law_604 : decode cL_law 604 = .ok (.aload_n 1, 1) := dk_43 (dk_at dksL_law_21 3 rfl rfl)
theorem dL_law_605 : decode cL_law 605 = .ok (.aload_n 0, 1) := dk_42 (dk_at dksL_law_21 4 rfl rfl)
theorem dL_law_606 : decode cL_law 606 = .ok (.iload 4, 2) := dk_21 4 (dk_at dksL_law_21 5 rfl rfl)
theorem dL_law_608 : decode cL_law 608 = .ok (.iconst 1, 1) := dk_4 (dk_at dksL_law_21 7 rfl rfl)
theorem dL_law_609 : decode cL_law 609 = .ok (.iadd, 1) := dk_96 (dk_at dksL_law_21 8 rfl rfl)
theorem dL_law_610 : decode cL_law 610 = .ok (.iaload, 1) := dk_46 (dk_at dksL_law_21 9 rfl rfl)
theorem dL_law_611 : decode cL_law 611 = .ok (.aload_n 0, 1) := dk_42 (dk_at dksL_law_21 10 rfl rfl)
theorem dL_law_612 : decode cL_law 612 = .ok (.iload 4, 2) := dk_21 4 (dk_at dksL_law_21 11 rfl rfl)
theorem dL_law_614 : decode cL_law 614 = .ok (.iconst 2, 1) := dk_5 (dk_at dksL_law_21 13 rfl rfl)
theorem dL_law_615 : decode cL_law 615 = .ok (.iadd, 1) := dk_96 (dk_at dksL_law_21 14 rfl rfl)
theorem dL_law_616 : decode cL_law 616 = .ok (.iaload, 1) := dk_46 (dk_at dksL_law_21 15 rfl rfl)
theorem dL_law_617 : decode cL_law 617 = .ok (.aload_n 3, 1) := dk_45 (dk_at dksL_law_21 16 rfl rfl)
theorem dL_law_618 : decode cL_law 618 = .ok (.invokestatic 117, 3) := dk_184 0 117 (dk_at dksL_law_21 17 rfl rfl)
theorem dL_law_621 : decode cL_law 621 = .ok (.istore 5, 2) := dk_54 5 (dk_at dksL_law_21 20 rfl rfl)
theorem dL_law_623 : decode cL_law 623 = .ok (.aload_n 2, 1) := dk_44 (dk_at dksL_law_21 22 rfl rfl)
theorem dL_law_624 : decode cL_law 624 = .ok (.aload_n 0, 1) := dk_42 (dk_at dksL_law_21 23 rfl rfl)
theorem dL_law_625 : decode cL_law 625 = .ok (.iload 4, 2) := dk_21 4 (dk_at dksL_law_22 0 rfl rfl)
theorem dL_law_627 : decode cL_law 627 = .ok (.iconst 1, 1) := dk_4 (dk_at dksL_law_22 2 rfl rfl)
theorem dL_law_628 : decode cL_law 628 = .ok (.iadd, 1) := dk_96 (dk_at dksL_law_22 3 rfl rfl)
theorem dL_law_629 : decode cL_law 629 = .ok (.iaload, 1) := dk_46 (dk_at dksL_law_22 4 rfl rfl)
theorem dL_law_630 : decode cL_law 630 = .ok (.aload_n 0, 1) := dk_42 (dk_at dksL_law_22 5 rfl rfl)
theorem dL_law_631 : decode cL_law 631 = .ok (.iload 4, 2) := dk_21 4 (dk_at dksL_law_22 6 rfl rfl)
theorem dL_law_633 : decode cL_law 633 = .ok (.iconst 2, 1) := dk_5 (dk_at dksL_law_22 8 rfl rfl)
theorem dL_law_634 : decode cL_law 634 = .ok (.iadd, 1) := dk_96 (dk_at dksL_law_22 9 rfl rfl)
theorem dL_law_635 : decode cL_law 635 = .ok (.iaload, 1) := dk_46 (dk_at dksL_law_22 10 rfl rfl)
theorem dL_law_636 : decode cL_law 636 = .ok (.invokevirtual 119, 3) := dk_182 0 119 (dk_at dksL_law_22 11 rfl rfl)
theorem dL_law_639 : decode cL_law 639 = .ok (.istore 6, 2) := dk_54 6 (dk_at dksL_law_22 14 rfl rfl)
theorem dL_law_641 : decode cL_law 641 = .ok (.aload_n 2, 1) := dk_44 (dk_at dksL_law_22 16 rfl rfl)
theorem dL_law_642 : decode cL_law 642 = .ok (.invokevirtual 87, 3) := dk_182 0 87 (dk_at dksL_law_22 17 rfl rfl)
theorem dL_law_645 : decode cL_law 645 = .ok (.iload 5, 2) := dk_21 5 (dk_at dksL_law_22 20 rfl rfl)
theorem dL_law_647 : decode cL_law 647 = .ok (.if_icmp .eq 5, 3) := dk_159 0 5 (dk_at dksL_law_23 0 rfl rfl)
theorem dL_law_650 : decode cL_law 650 = .ok (.iconst 0, 1) := dk_3 (dk_at dksL_law_23 3 rfl rfl)
theorem dL_law_651 : decode cL_law 651 = .ok (.ireturn, 1) := dk_172 (dk_at dksL_law_23 4 rfl rfl)
theorem dL_law_652 : decode cL_law 652 = .ok (.iload 5, 2) := dk_21 5 (dk_at dksL_law_23 5 rfl rfl)
theorem dL_law_654 : decode cL_law 654 = .ok (.ifCond .ne 15, 3) := dk_154 0 15 (dk_at dksL_law_23 7 rfl rfl)
theorem dL_law_657 : decode cL_law 657 = .ok (.aload_n 3, 1) := dk_45 (dk_at dksL_law_23 10 rfl rfl)
theorem dL_law_658 : decode cL_law 658 = .ok (.iconst 0, 1) := dk_3 (dk_at dksL_law_23 11 rfl rfl)
theorem dL_law_659 : decode cL_law 659 = .ok (.laload, 1) := dk_47 (dk_at dksL_law_23 12 rfl rfl)
theorem dL_law_660 : decode cL_law 660 = .ok (.iload 6, 2) := dk_21 6 (dk_at dksL_law_23 13 rfl rfl)
theorem dL_law_662 : decode cL_law 662 = .ok (.i2l, 1) := dk_133 (dk_at dksL_law_23 15 rfl rfl)
theorem dL_law_663 : decode cL_law 663 = .ok (.lcmp, 1) := dk_148 (dk_at dksL_law_23 16 rfl rfl)
theorem dL_law_664 : decode cL_law 664 = .ok (.ifCond .eq 5, 3) := dk_153 0 5 (dk_at dksL_law_23 17 rfl rfl)
theorem dL_law_667 : decode cL_law 667 = .ok (.iconst 0, 1) := dk_3 (dk_at dksL_law_23 20 rfl rfl)
theorem dL_law_668 : decode cL_law 668 = .ok (.ireturn, 1) := dk_172 (dk_at dksL_law_23 21 rfl rfl)
theorem dL_law_669 : decode cL_law 669 = .ok (.goto 840, 3) := dk_167 3 72 (dk_at dksL_law_24 0 rfl rfl)
theorem dL_law_672 : decode cL_law 672 = .ok (.aload_n 1, 1) := dk_43 (dk_at dksL_law_24 3 rfl rfl)
theorem dL_law_673 : decode cL_law 673 = .ok (.aload_n 0, 1) := dk_42 (dk_at dksL_law_24 4 rfl rfl)
theorem dL_law_674 : decode cL_law 674 = .ok (.iload 4, 2) := dk_21 4 (dk_at dksL_law_24 5 rfl rfl)
theorem dL_law_676 : decode cL_law 676 = .ok (.iconst 1, 1) := dk_4 (dk_at dksL_law_24 7 rfl rfl)
theorem dL_law_677 : decode cL_law 677 = .ok (.iadd, 1) := dk_96 (dk_at dksL_law_24 8 rfl rfl)
theorem dL_law_678 : decode cL_law 678 = .ok (.iaload, 1) := dk_46 (dk_at dksL_law_24 9 rfl rfl)
theorem dL_law_679 : decode cL_law 679 = .ok (.aload_n 0, 1) := dk_42 (dk_at dksL_law_24 10 rfl rfl)
theorem dL_law_680 : decode cL_law 680 = .ok (.iload 4, 2) := dk_21 4 (dk_at dksL_law_24 11 rfl rfl)
theorem dL_law_682 : decode cL_law 682 = .ok (.iconst 2, 1) := dk_5 (dk_at dksL_law_24 13 rfl rfl)
theorem dL_law_683 : decode cL_law 683 = .ok (.iadd, 1) := dk_96 (dk_at dksL_law_24 14 rfl rfl)
theorem dL_law_684 : decode cL_law 684 = .ok (.iaload, 1) := dk_46 (dk_at dksL_law_24 15 rfl rfl)
theorem dL_law_685 : decode cL_law 685 = .ok (.aload_n 3, 1) := dk_45 (dk_at dksL_law_24 16 rfl rfl)
theorem dL_law_686 : decode cL_law 686 = .ok (.invokestatic 120, 3) := dk_184 0 120 (dk_at dksL_law_24 17 rfl rfl)
theorem dL_law_689 : decode cL_law 689 = .ok (.istore 5, 2) := dk_54 5 (dk_at dksL_law_24 20 rfl rfl)
theorem dL_law_691 : decode cL_law 691 = .ok (.aload_n 2, 1) := dk_44 (dk_at dksL_law_24 22 rfl rfl)
theorem dL_law_692 : decode cL_law 692 = .ok (.aload_n 0, 1) := dk_42 (dk_at dksL_law_24 23 rfl rfl)
theorem dL_law_693 : decode cL_law 693 = .ok (.iload 4, 2) := dk_21 4 (dk_at dksL_law_25 0 rfl rfl)
theorem dL_law_695 : decode cL_law 695 = .ok (.iconst 1, 1) := dk_4 (dk_at dksL_law_25 2 rfl rfl)
theorem dL_law_696 : decode cL_law 696 = .ok (.iadd, 1) := dk_96 (dk_at dksL_law_25 3 rfl rfl)
theorem dL_law_697 : decode cL_law 697 = .ok (.iaload, 1) := dk_46 (dk_at dksL_law_25 4 rfl rfl)
theorem dL_law_698 : decode cL_law 698 = .ok (.aload_n 0, 1) := dk_42 (dk_at dksL_law_25 5 rfl rfl)
theorem dL_law_699 : decode cL_law 699 = .ok (.iload 4, 2) := dk_21 4 (dk_at dksL_law_25 6 rfl rfl)
theorem dL_law_701 : decode cL_law 701 = .ok (.iconst 2, 1) := dk_5 (dk_at dksL_law_25 8 rfl rfl)
theorem dL_law_702 : decode cL_law 702 = .ok (.iadd, 1) := dk_96 (dk_at dksL_law_25 9 rfl rfl)
theorem dL_law_703 : decode cL_law 703 = .ok (.iaload, 1) := dk_46 (dk_at dksL_law_25 10 rfl rfl)
theorem dL_law_704 : decode cL_law 704 = .ok (.invokevirtual 122, 3) := dk_182 0 122 (dk_at dksL_law_25 11 rfl rfl)
theorem dL_law_707 : decode cL_law 707 = .ok (.istore 6, 2) := dk_54 6 (dk_at dksL_law_25 14 rfl rfl)
theorem dL_law_709 : decode cL_law 709 = .ok (.aload_n 2, 1) := dk_44 (dk_at dksL_law_25 16 rfl rfl)
theorem dL_law_710 : decode cL_law 710 = .ok (.invokevirtual 87, 3) := dk_182 0 87 (dk_at dksL_law_25 17 rfl rfl)
theorem dL_law_713 : decode cL_law 713 = .ok (.iload 5, 2) := dk_21 5 (dk_at dksL_law_25 20 rfl rfl)
theorem dL_law_715 : decode cL_law 715 = .ok (.if_icmp .eq 5, 3) := dk_159 0 5 (dk_at dksL_law_26 0 rfl rfl)
theorem dL_law_718 : decode cL_law 718 = .ok (.iconst 0, 1) := dk_3 (dk_at dksL_law_26 3 rfl rfl)
theorem dL_law_719 : decode cL_law 719 = .ok (.ireturn, 1) := dk_172 (dk_at dksL_law_26 4 rfl rfl)
theorem dL_law_720 : decode cL_law 720 = .ok (.iload 5, 2) := dk_21 5 (dk_at dksL_law_26 5 rfl rfl)
theorem dL_law_722 : decode cL_law 722 = .ok (.ifCond .ne 15, 3) := dk_154 0 15 (dk_at dksL_law_26 7 rfl rfl)
theorem dL_law_725 : decode cL_law 725 = .ok (.aload_n 3, 1) := dk_45 (dk_at dksL_law_26 10 rfl rfl)
theorem dL_law_726 : decode cL_law 726 = .ok (.iconst 0, 1) := dk_3 (dk_at dksL_law_26 11 rfl rfl)
theorem dL_law_727 : decode cL_law 727 = .ok (.laload, 1) := dk_47 (dk_at dksL_law_26 12 rfl rfl)
theorem dL_law_728 : decode cL_law 728 = .ok (.iload 6, 2) := dk_21 6 (dk_at dksL_law_26 13 rfl rfl)
theorem dL_law_730 : decode cL_law 730 = .ok (.i2l, 1) := dk_133 (dk_at dksL_law_26 15 rfl rfl)
theorem dL_law_731 : decode cL_law 731 = .ok (.lcmp, 1) := dk_148 (dk_at dksL_law_26 16 rfl rfl)
theorem dL_law_732 : decode cL_law 732 = .ok (.ifCond .eq 5, 3) := dk_153 0 5 (dk_at dksL_law_26 17 rfl rfl)
theorem dL_law_735 : decode cL_law 735 = .ok (.iconst 0, 1) := dk_3 (dk_at dksL_law_26 20 rfl rfl)
theorem dL_law_736 : decode cL_law 736 = .ok (.ireturn, 1) := dk_172 (dk_at dksL_law_26 21 rfl rfl)
theorem dL_law_737 : decode cL_law 737 = .ok (.goto 772, 3) := dk_167 3 4 (dk_at dksL_law_27 0 rfl rfl)
theorem dL_law_740 : decode cL_law 740 = .ok (.aload_n 1, 1) := dk_43 (dk_at dksL_law_27 3 rfl rfl)
theorem dL_law_741 : decode cL_law 741 = .ok (.aload_n 0, 1) := dk_42 (dk_at dksL_law_27 4 rfl rfl)
theorem dL_law_742 : decode cL_law 742 = .ok (.iload 4, 2) := dk_21 4 (dk_at dksL_law_27 5 rfl rfl)
theorem dL_law_744 : decode cL_law 744 = .ok (.iconst 1, 1) := dk_4 (dk_at dksL_law_27 7 rfl rfl)
theorem dL_law_745 : decode cL_law 745 = .ok (.iadd, 1) := dk_96 (dk_at dksL_law_27 8 rfl rfl)
theorem dL_law_746 : decode cL_law 746 = .ok (.iaload, 1) := dk_46 (dk_at dksL_law_27 9 rfl rfl)
theorem dL_law_747 : decode cL_law 747 = .ok (.aload_n 3, 1) := dk_45 (dk_at dksL_law_27 10 rfl rfl)
theorem dL_law_748 : decode cL_law 748 = .ok (.invokestatic 123, 3) := dk_184 0 123 (dk_at dksL_law_27 11 rfl rfl)
theorem dL_law_751 : decode cL_law 751 = .ok (.istore 5, 2) := dk_54 5 (dk_at dksL_law_27 14 rfl rfl)
theorem dL_law_753 : decode cL_law 753 = .ok (.aload_n 2, 1) := dk_44 (dk_at dksL_law_27 16 rfl rfl)
theorem dL_law_754 : decode cL_law 754 = .ok (.aload_n 0, 1) := dk_42 (dk_at dksL_law_27 17 rfl rfl)
theorem dL_law_755 : decode cL_law 755 = .ok (.iload 4, 2) := dk_21 4 (dk_at dksL_law_27 18 rfl rfl)
theorem dL_law_757 : decode cL_law 757 = .ok (.iconst 1, 1) := dk_4 (dk_at dksL_law_27 20 rfl rfl)
theorem dL_law_758 : decode cL_law 758 = .ok (.iadd, 1) := dk_96 (dk_at dksL_law_27 21 rfl rfl)
theorem dL_law_759 : decode cL_law 759 = .ok (.iaload, 1) := dk_46 (dk_at dksL_law_27 22 rfl rfl)
theorem dL_law_760 : decode cL_law 760 = .ok (.invokevirtual 125, 3) := dk_182 0 125 (dk_at dksL_law_28 0 rfl rfl)
theorem dL_law_763 : decode cL_law 763 = .ok (.istore 6, 2) := dk_54 6 (dk_at dksL_law_28 3 rfl rfl)
theorem dL_law_765 : decode cL_law 765 = .ok (.aload_n 2, 1) := dk_44 (dk_at dksL_law_28 5 rfl rfl)
theorem dL_law_766 : decode cL_law 766 = .ok (.invokevirtual 87, 3) := dk_182 0 87 (dk_at dksL_law_28 6 rfl rfl)
theorem dL_law_769 : decode cL_law 769 = .ok (.iload 5, 2) := dk_21 5 (dk_at dksL_law_28 9 rfl rfl)
theorem dL_law_771 : decode cL_law 771 = .ok (.if_icmp .eq 5, 3) := dk_159 0 5 (dk_at dksL_law_28 11 rfl rfl)
theorem dL_law_774 : decode cL_law 774 = .ok (.iconst 0, 1) := dk_3 (dk_at dksL_law_28 14 rfl rfl)
theorem dL_law_775 : decode cL_law 775 = .ok (.ireturn, 1) := dk_172 (dk_at dksL_law_28 15 rfl rfl)
theorem dL_law_776 : decode cL_law 776 = .ok (.iload 5, 2) := dk_21 5 (dk_at dksL_law_28 16 rfl rfl)
theorem dL_law_778 : decode cL_law 778 = .ok (.ifCond .ne 15, 3) := dk_154 0 15 (dk_at dksL_law_28 18 rfl rfl)
theorem dL_law_781 : decode cL_law 781 = .ok (.aload_n 3, 1) := dk_45 (dk_at dksL_law_28 21 rfl rfl)
theorem dL_law_782 : decode cL_law 782 = .ok (.iconst 0, 1) := dk_3 (dk_at dksL_law_28 22 rfl rfl)
theorem dL_law_783 : decode cL_law 783 = .ok (.laload, 1) := dk_47 (dk_at dksL_law_28 23 rfl rfl)
theorem dL_law_784 : decode cL_law 784 = .ok (.iload 6, 2) := dk_21 6 (dk_at dksL_law_29 0 rfl rfl)
theorem dL_law_786 : decode cL_law 786 = .ok (.i2l, 1) := dk_133 (dk_at dksL_law_29 2 rfl rfl)
theorem dL_law_787 : decode cL_law 787 = .ok (.lcmp, 1) := dk_148 (dk_at dksL_law_29 3 rfl rfl)
theorem dL_law_788 : decode cL_law 788 = .ok (.ifCond .eq 5, 3) := dk_153 0 5 (dk_at dksL_law_29 4 rfl rfl)
theorem dL_law_791 : decode cL_law 791 = .ok (.iconst 0, 1) := dk_3 (dk_at dksL_law_29 7 rfl rfl)
theorem dL_law_792 : decode cL_law 792 = .ok (.ireturn, 1) := dk_172 (dk_at dksL_law_29 8 rfl rfl)
theorem dL_law_793 : decode cL_law 793 = .ok (.goto 716, 3) := dk_167 2 204 (dk_at dksL_law_29 9 rfl rfl)
theorem dL_law_796 : decode cL_law 796 = .ok (.aload_n 1, 1) := dk_43 (dk_at dksL_law_29 12 rfl rfl)
theorem dL_law_797 : decode cL_law 797 = .ok (.invokevirtual 126, 3) := dk_182 0 126 (dk_at dksL_law_29 13 rfl rfl)
theorem dL_law_800 : decode cL_law 800 = .ok (.aload_n 2, 1) := dk_44 (dk_at dksL_law_29 16 rfl rfl)
theorem dL_law_801 : decode cL_law 801 = .ok (.invokevirtual 129, 3) := dk_182 0 129 (dk_at dksL_law_29 17 rfl rfl)
theorem dL_law_804 : decode cL_law 804 = .ok (.if_icmp .eq 705, 3) := dk_159 2 193 (dk_at dksL_law_29 20 rfl rfl)
theorem dL_law_807 : decode cL_law 807 = .ok (.iconst 0, 1) := dk_3 (dk_at dksL_law_29 23 rfl rfl)
theorem dL_law_808 : decode cL_law 808 = .ok (.ireturn, 1) := dk_172 (dk_at dksL_law_30 0 rfl rfl)
theorem dL_law_809 : decode cL_law 809 = .ok (.aload_n 1, 1) := dk_43 (dk_at dksL_law_30 1 rfl rfl)
theorem dL_law_810 : decode cL_law 810 = .ok (.aload_n 0, 1) := dk_42 (dk_at dksL_law_30 2 rfl rfl)
theorem dL_law_811 : decode cL_law 811 = .ok (.iload 4, 2) := dk_21 4 (dk_at dksL_law_30 3 rfl rfl)
theorem dL_law_813 : decode cL_law 813 = .ok (.iconst 1, 1) := dk_4 (dk_at dksL_law_30 5 rfl rfl)
theorem dL_law_814 : decode cL_law 814 = .ok (.iadd, 1) := dk_96 (dk_at dksL_law_30 6 rfl rfl)
theorem dL_law_815 : decode cL_law 815 = .ok (.iaload, 1) := dk_46 (dk_at dksL_law_30 7 rfl rfl)
theorem dL_law_816 : decode cL_law 816 = .ok (.aload_n 3, 1) := dk_45 (dk_at dksL_law_30 8 rfl rfl)
theorem dL_law_817 : decode cL_law 817 = .ok (.invokestatic 130, 3) := dk_184 0 130 (dk_at dksL_law_30 9 rfl rfl)
theorem dL_law_820 : decode cL_law 820 = .ok (.istore 5, 2) := dk_54 5 (dk_at dksL_law_30 12 rfl rfl)
theorem dL_law_822 : decode cL_law 822 = .ok (.aload_n 2, 1) := dk_44 (dk_at dksL_law_30 14 rfl rfl)
theorem dL_law_823 : decode cL_law 823 = .ok (.aload_n 0, 1) := dk_42 (dk_at dksL_law_30 15 rfl rfl)
theorem dL_law_824 : decode cL_law 824 = .ok (.iload 4, 2) := dk_21 4 (dk_at dksL_law_30 16 rfl rfl)
theorem dL_law_826 : decode cL_law 826 = .ok (.iconst 1, 1) := dk_4 (dk_at dksL_law_30 18 rfl rfl)
theorem dL_law_827 : decode cL_law 827 = .ok (.iadd, 1) := dk_96 (dk_at dksL_law_30 19 rfl rfl)
theorem dL_law_828 : decode cL_law 828 = .ok (.iaload, 1) := dk_46 (dk_at dksL_law_30 20 rfl rfl)
theorem dL_law_829 : decode cL_law 829 = .ok (.invokevirtual 132, 3) := dk_182 0 132 (dk_at dksL_law_30 21 rfl rfl)
theorem dL_law_832 : decode cL_law 832 = .ok (.istore 6, 2) := dk_54 6 (dk_at dksL_law_31 0 rfl rfl)
theorem dL_law_834 : decode cL_law 834 = .ok (.aload_n 2, 1) := dk_44 (dk_at dksL_law_31 2 rfl rfl)
theorem dL_law_835 : decode cL_law 835 = .ok (.invokevirtual 87, 3) := dk_182 0 87 (dk_at dksL_law_31 3 rfl rfl)
theorem dL_law_838 : decode cL_law 838 = .ok (.iload 5, 2) := dk_21 5 (dk_at dksL_law_31 6 rfl rfl)
theorem dL_law_840 : decode cL_law 840 = .ok (.if_icmp .eq 5, 3) := dk_159 0 5 (dk_at dksL_law_31 8 rfl rfl)
theorem dL_law_843 : decode cL_law 843 = .ok (.iconst 0, 1) := dk_3 (dk_at dksL_law_31 11 rfl rfl)
theorem dL_law_844 : decode cL_law 844 = .ok (.ireturn, 1) := dk_172 (dk_at dksL_law_31 12 rfl rfl)
theorem dL_law_845 : decode cL_law 845 = .ok (.iload 5, 2) := dk_21 5 (dk_at dksL_law_31 13 rfl rfl)
theorem dL_law_847 : decode cL_law 847 = .ok (.ifCond .ne 15, 3) := dk_154 0 15 (dk_at dksL_law_31 15 rfl rfl)
theorem dL_law_850 : decode cL_law 850 = .ok (.aload_n 3, 1) := dk_45 (dk_at dksL_law_31 18 rfl rfl)
theorem dL_law_851 : decode cL_law 851 = .ok (.iconst 0, 1) := dk_3 (dk_at dksL_law_31 19 rfl rfl)
theorem dL_law_852 : decode cL_law 852 = .ok (.laload, 1) := dk_47 (dk_at dksL_law_31 20 rfl rfl)
theorem dL_law_853 : decode cL_law 853 = .ok (.iload 6, 2) := dk_21 6 (dk_at dksL_law_31 21 rfl rfl)
theorem dL_law_855 : decode cL_law 855 = .ok (.i2l, 1) := dk_133 (dk_at dksL_law_31 23 rfl rfl)
theorem dL_law_856 : decode cL_law 856 = .ok (.lcmp, 1) := dk_148 (dk_at dksL_law_32 0 rfl rfl)
theorem dL_law_857 : decode cL_law 857 = .ok (.ifCond .eq 5, 3) := dk_153 0 5 (dk_at dksL_law_32 1 rfl rfl)
theorem dL_law_860 : decode cL_law 860 = .ok (.iconst 0, 1) := dk_3 (dk_at dksL_law_32 4 rfl rfl)
theorem dL_law_861 : decode cL_law 861 = .ok (.ireturn, 1) := dk_172 (dk_at dksL_law_32 5 rfl rfl)
theorem dL_law_862 : decode cL_law 862 = .ok (.goto 647, 3) := dk_167 2 135 (dk_at dksL_law_32 6 rfl rfl)
theorem dL_law_865 : decode cL_law 865 = .ok (.aload_n 1, 1) := dk_43 (dk_at dksL_law_32 9 rfl rfl)
theorem dL_law_866 : decode cL_law 866 = .ok (.invokevirtual 133, 3) := dk_182 0 133 (dk_at dksL_law_32 10 rfl rfl)
theorem dL_law_869 : decode cL_law 869 = .ok (.aload_n 2, 1) := dk_44 (dk_at dksL_law_32 13 rfl rfl)
theorem dL_law_870 : decode cL_law 870 = .ok (.invokevirtual 136, 3) := dk_182 0 136 (dk_at dksL_law_32 14 rfl rfl)
theorem dL_law_873 : decode cL_law 873 = .ok (.if_icmp .eq 636, 3) := dk_159 2 124 (dk_at dksL_law_32 17 rfl rfl)
theorem dL_law_876 : decode cL_law 876 = .ok (.iconst 0, 1) := dk_3 (dk_at dksL_law_32 20 rfl rfl)
theorem dL_law_877 : decode cL_law 877 = .ok (.ireturn, 1) := dk_172 (dk_at dksL_law_32 21 rfl rfl)
theorem dL_law_878 : decode cL_law 878 = .ok (.aload_n 1, 1) := dk_43 (dk_at dksL_law_32 22 rfl rfl)
theorem dL_law_879 : decode cL_law 879 = .ok (.aload_n 0, 1) := dk_42 (dk_at dksL_law_32 23 rfl rfl)
theorem dL_law_880 : decode cL_law 880 = .ok (.iload 4, 2) := dk_21 4 (dk_at dksL_law_33 0 rfl rfl)
theorem dL_law_882 : decode cL_law 882 = .ok (.iconst 1, 1) := dk_4 (dk_at dksL_law_33 2 rfl rfl)
theorem dL_law_883 : decode cL_law 883 = .ok (.iadd, 1) := dk_96 (dk_at dksL_law_33 3 rfl rfl)
theorem dL_law_884 : decode cL_law 884 = .ok (.iaload, 1) := dk_46 (dk_at dksL_law_33 4 rfl rfl)
theorem dL_law_885 : decode cL_law 885 = .ok (.aload_n 3, 1) := dk_45 (dk_at dksL_law_33 5 rfl rfl)
theorem dL_law_886 : decode cL_law 886 = .ok (.invokestatic 137, 3) := dk_184 0 137 (dk_at dksL_law_33 6 rfl rfl)
theorem dL_law_889 : decode cL_law 889 = .ok (.istore 5, 2) := dk_54 5 (dk_at dksL_law_33 9 rfl rfl)
theorem dL_law_891 : decode cL_law 891 = .ok (.aload_n 2, 1) := dk_44 (dk_at dksL_law_33 11 rfl rfl)
theorem dL_law_892 : decode cL_law 892 = .ok (.aload_n 0, 1) := dk_42 (dk_at dksL_law_33 12 rfl rfl)
theorem dL_law_893 : decode cL_law 893 = .ok (.iload 4, 2) := dk_21 4 (dk_at dksL_law_33 13 rfl rfl)
theorem dL_law_895 : decode cL_law 895 = .ok (.iconst 1, 1) := dk_4 (dk_at dksL_law_33 15 rfl rfl)
theorem dL_law_896 : decode cL_law 896 = .ok (.iadd, 1) := dk_96 (dk_at dksL_law_33 16 rfl rfl)
theorem dL_law_897 : decode cL_law 897 = .ok (.iaload, 1) := dk_46 (dk_at dksL_law_33 17 rfl rfl)
theorem dL_law_898 : decode cL_law 898 = .ok (.invokevirtual 139, 3) := dk_182 0 139 (dk_at dksL_law_33 18 rfl rfl)
theorem dL_law_901 : decode cL_law 901 = .ok (.istore 6, 2) := dk_54 6 (dk_at dksL_law_33 21 rfl rfl)
theorem dL_law_903 : decode cL_law 903 = .ok (.aload_n 2, 1) := dk_44 (dk_at dksL_law_33 23 rfl rfl)
theorem dL_law_904 : decode cL_law 904 = .ok (.invokevirtual 87, 3) := dk_182 0 87 (dk_at dksL_law_34 0 rfl rfl)
theorem dL_law_907 : decode cL_law 907 = .ok (.iload 5, 2) := dk_21 5 (dk_at dksL_law_34 3 rfl rfl)
theorem dL_law_909 : decode cL_law 909 = .ok (.if_icmp .eq 5, 3) := dk_159 0 5 (dk_at dksL_law_34 5 rfl rfl)
theorem dL_law_912 : decode cL_law 912 = .ok (.iconst 0, 1) := dk_3 (dk_at dksL_law_34 8 rfl rfl)
theorem dL_law_913 : decode cL_law 913 = .ok (.ireturn, 1) := dk_172 (dk_at dksL_law_34 9 rfl rfl)
theorem dL_law_914 : decode cL_law 914 = .ok (.iload 5, 2) := dk_21 5 (dk_at dksL_law_34 10 rfl rfl)
theorem dL_law_916 : decode cL_law 916 = .ok (.ifCond .ne 15, 3) := dk_154 0 15 (dk_at dksL_law_34 12 rfl rfl)
theorem dL_law_919 : decode cL_law 919 = .ok (.aload_n 3, 1) := dk_45 (dk_at dksL_law_34 15 rfl rfl)
theorem dL_law_920 : decode cL_law 920 = .ok (.iconst 0, 1) := dk_3 (dk_at dksL_law_34 16 rfl rfl)
theorem dL_law_921 : decode cL_law 921 = .ok (.laload, 1) := dk_47 (dk_at dksL_law_34 17 rfl rfl)
theorem dL_law_922 : decode cL_law 922 = .ok (.iload 6, 2) := dk_21 6 (dk_at dksL_law_34 18 rfl rfl)
theorem dL_law_924 : decode cL_law 924 = .ok (.i2l, 1) := dk_133 (dk_at dksL_law_34 20 rfl rfl)
theorem dL_law_925 : decode cL_law 925 = .ok (.lcmp, 1) := dk_148 (dk_at dksL_law_34 21 rfl rfl)
theorem dL_law_926 : decode cL_law 926 = .ok (.ifCond .eq 5, 3) := dk_153 0 5 (dk_at dksL_law_35 0 rfl rfl)
theorem dL_law_929 : decode cL_law 929 = .ok (.iconst 0, 1) := dk_3 (dk_at dksL_law_35 3 rfl rfl)
theorem dL_law_930 : decode cL_law 930 = .ok (.ireturn, 1) := dk_172 (dk_at dksL_law_35 4 rfl rfl)
theorem dL_law_931 : decode cL_law 931 = .ok (.goto 578, 3) := dk_167 2 66 (dk_at dksL_law_35 5 rfl rfl)
theorem dL_law_934 : decode cL_law 934 = .ok (.aload_n 1, 1) := dk_43 (dk_at dksL_law_35 8 rfl rfl)
theorem dL_law_935 : decode cL_law 935 = .ok (.invokevirtual 140, 3) := dk_182 0 140 (dk_at dksL_law_35 9 rfl rfl)
theorem dL_law_938 : decode cL_law 938 = .ok (.aload_n 2, 1) := dk_44 (dk_at dksL_law_35 12 rfl rfl)
theorem dL_law_939 : decode cL_law 939 = .ok (.invokevirtual 143, 3) := dk_182 0 143 (dk_at dksL_law_35 13 rfl rfl)
theorem dL_law_942 : decode cL_law 942 = .ok (.if_icmp .eq 567, 3) := dk_159 2 55 (dk_at dksL_law_35 16 rfl rfl)
theorem dL_law_945 : decode cL_law 945 = .ok (.iconst 0, 1) := dk_3 (dk_at dksL_law_35 19 rfl rfl)
theorem dL_law_946 : decode cL_law 946 = .ok (.ireturn, 1) := dk_172 (dk_at dksL_law_35 20 rfl rfl)
theorem dL_law_947 : decode cL_law 947 = .ok (.aload_n 1, 1) := dk_43 (dk_at dksL_law_35 21 rfl rfl)
theorem dL_law_948 : decode cL_law 948 = .ok (.aload_n 0, 1) := dk_42 (dk_at dksL_law_35 22 rfl rfl)
theorem dL_law_949 : decode cL_law 949 = .ok (.iload 4, 2) := dk_21 4 (dk_at dksL_law_36 0 rfl rfl)
theorem dL_law_951 : decode cL_law 951 = .ok (.iconst 1, 1) := dk_4 (dk_at dksL_law_36 2 rfl rfl)
theorem dL_law_952 : decode cL_law 952 = .ok (.iadd, 1) := dk_96 (dk_at dksL_law_36 3 rfl rfl)
theorem dL_law_953 : decode cL_law 953 = .ok (.iaload, 1) := dk_46 (dk_at dksL_law_36 4 rfl rfl)
theorem dL_law_954 : decode cL_law 954 = .ok (.aload_n 3, 1) := dk_45 (dk_at dksL_law_36 5 rfl rfl)
theorem dL_law_955 : decode cL_law 955 = .ok (.invokestatic 144, 3) := dk_184 0 144 (dk_at dksL_law_36 6 rfl rfl)
theorem dL_law_958 : decode cL_law 958 = .ok (.istore 5, 2) := dk_54 5 (dk_at dksL_law_36 9 rfl rfl)
theorem dL_law_960 : decode cL_law 960 = .ok (.aload_n 2, 1) := dk_44 (dk_at dksL_law_36 11 rfl rfl)
theorem dL_law_961 : decode cL_law 961 = .ok (.aload_n 0, 1) := dk_42 (dk_at dksL_law_36 12 rfl rfl)
theorem dL_law_962 : decode cL_law 962 = .ok (.iload 4, 2) := dk_21 4 (dk_at dksL_law_36 13 rfl rfl)
theorem dL_law_964 : decode cL_law 964 = .ok (.iconst 1, 1) := dk_4 (dk_at dksL_law_36 15 rfl rfl)
theorem dL_law_965 : decode cL_law 965 = .ok (.iadd, 1) := dk_96 (dk_at dksL_law_36 16 rfl rfl)
theorem dL_law_966 : decode cL_law 966 = .ok (.iaload, 1) := dk_46 (dk_at dksL_law_36 17 rfl rfl)
theorem dL_law_967 : decode cL_law 967 = .ok (.invokevirtual 146, 3) := dk_182 0 146 (dk_at dksL_law_36 18 rfl rfl)
theorem dL_law_970 : decode cL_law 970 = .ok (.istore 6, 2) := dk_54 6 (dk_at dksL_law_36 21 rfl rfl)
theorem dL_law_972 : decode cL_law 972 = .ok (.aload_n 2, 1) := dk_44 (dk_at dksL_law_36 23 rfl rfl)
theorem dL_law_973 : decode cL_law 973 = .ok (.invokevirtual 87, 3) := dk_182 0 87 (dk_at dksL_law_37 0 rfl rfl)
theorem dL_law_976 : decode cL_law 976 = .ok (.iload 5, 2) := dk_21 5 (dk_at dksL_law_37 3 rfl rfl)
theorem dL_law_978 : decode cL_law 978 = .ok (.if_icmp .eq 5, 3) := dk_159 0 5 (dk_at dksL_law_37 5 rfl rfl)
theorem dL_law_981 : decode cL_law 981 = .ok (.iconst 0, 1) := dk_3 (dk_at dksL_law_37 8 rfl rfl)
theorem dL_law_982 : decode cL_law 982 = .ok (.ireturn, 1) := dk_172 (dk_at dksL_law_37 9 rfl rfl)
theorem dL_law_983 : decode cL_law 983 = .ok (.iload 5, 2) := dk_21 5 (dk_at dksL_law_37 10 rfl rfl)
theorem dL_law_985 : decode cL_law 985 = .ok (.ifCond .ne 15, 3) := dk_154 0 15 (dk_at dksL_law_37 12 rfl rfl)
theorem dL_law_988 : decode cL_law 988 = .ok (.aload_n 3, 1) := dk_45 (dk_at dksL_law_37 15 rfl rfl)
theorem dL_law_989 : decode cL_law 989 = .ok (.iconst 0, 1) := dk_3 (dk_at dksL_law_37 16 rfl rfl)
theorem dL_law_990 : decode cL_law 990 = .ok (.laload, 1) := dk_47 (dk_at dksL_law_37 17 rfl rfl)
theorem dL_law_991 : decode cL_law 991 = .ok (.iload 6, 2) := dk_21 6 (dk_at dksL_law_37 18 rfl rfl)
theorem dL_law_993 : decode cL_law 993 = .ok (.i2l, 1) := dk_133 (dk_at dksL_law_37 20 rfl rfl)
theorem dL_law_994 : decode cL_law 994 = .ok (.lcmp, 1) := dk_148 (dk_at dksL_law_37 21 rfl rfl)
theorem dL_law_995 : decode cL_law 995 = .ok (.ifCond .eq 5, 3) := dk_153 0 5 (dk_at dksL_law_38 0 rfl rfl)
theorem dL_law_998 : decode cL_law 998 = .ok (.iconst 0, 1) := dk_3 (dk_at dksL_law_38 3 rfl rfl)
theorem dL_law_999 : decode cL_law 999 = .ok (.ireturn, 1) := dk_172 (dk_at dksL_law_38 4 rfl rfl)
theorem dL_law_1000 : decode cL_law 1000 = .ok (.goto 509, 3) := dk_167 1 253 (dk_at dksL_law_38 5 rfl rfl)
theorem dL_law_1003 : decode cL_law 1003 = .ok (.aload_n 1, 1) := dk_43 (dk_at dksL_law_38 8 rfl rfl)
theorem dL_law_1004 : decode cL_law 1004 = .ok (.invokevirtual 147, 3) := dk_182 0 147 (dk_at dksL_law_38 9 rfl rfl)
theorem dL_law_1007 : decode cL_law 1007 = .ok (.aload_n 2, 1) := dk_44 (dk_at dksL_law_38 12 rfl rfl)
theorem dL_law_1008 : decode cL_law 1008 = .ok (.invokevirtual 150, 3) := dk_182 0 150 (dk_at dksL_law_38 13 rfl rfl)
theorem dL_law_1011 : decode cL_law 1011 = .ok (.if_icmp .eq 498, 3) := dk_159 1 242 (dk_at dksL_law_38 16 rfl rfl)
theorem dL_law_1014 : decode cL_law 1014 = .ok (.iconst 0, 1) := dk_3 (dk_at dksL_law_38 19 rfl rfl)
theorem dL_law_1015 : decode cL_law 1015 = .ok (.ireturn, 1) := dk_172 (dk_at dksL_law_38 20 rfl rfl)
theorem dL_law_1016 : decode cL_law 1016 = .ok (.aload_n 1, 1) := dk_43 (dk_at dksL_law_38 21 rfl rfl)
theorem dL_law_1017 : decode cL_law 1017 = .ok (.invokevirtual 151, 3) := dk_182 0 151 (dk_at dksL_law_39 0 rfl rfl)
theorem dL_law_1020 : decode cL_law 1020 = .ok (.aload_n 2, 1) := dk_44 (dk_at dksL_law_39 3 rfl rfl)
theorem dL_law_1021 : decode cL_law 1021 = .ok (.invokevirtual 154, 3) := dk_182 0 154 (dk_at dksL_law_39 4 rfl rfl)
theorem dL_law_1024 : decode cL_law 1024 = .ok (.if_icmp .eq 485, 3) := dk_159 1 229 (dk_at dksL_law_39 7 rfl rfl)
theorem dL_law_1027 : decode cL_law 1027 = .ok (.iconst 0, 1) := dk_3 (dk_at dksL_law_39 10 rfl rfl)
theorem dL_law_1028 : decode cL_law 1028 = .ok (.ireturn, 1) := dk_172 (dk_at dksL_law_39 11 rfl rfl)
theorem dL_law_1029 : decode cL_law 1029 = .ok (.aload_n 1, 1) := dk_43 (dk_at dksL_law_39 12 rfl rfl)
theorem dL_law_1030 : decode cL_law 1030 = .ok (.aload_n 0, 1) := dk_42 (dk_at dksL_law_39 13 rfl rfl)
theorem dL_law_1031 : decode cL_law 1031 = .ok (.iload 4, 2) := dk_21 4 (dk_at dksL_law_39 14 rfl rfl)
theorem dL_law_1033 : decode cL_law 1033 = .ok (.iconst 1, 1) := dk_4 (dk_at dksL_law_39 16 rfl rfl)
theorem dL_law_1034 : decode cL_law 1034 = .ok (.iadd, 1) := dk_96 (dk_at dksL_law_39 17 rfl rfl)
theorem dL_law_1035 : decode cL_law 1035 = .ok (.iaload, 1) := dk_46 (dk_at dksL_law_39 18 rfl rfl)
theorem dL_law_1036 : decode cL_law 1036 = .ok (.aload_n 0, 1) := dk_42 (dk_at dksL_law_39 19 rfl rfl)
theorem dL_law_1037 : decode cL_law 1037 = .ok (.iload 4, 2) := dk_21 4 (dk_at dksL_law_39 20 rfl rfl)
theorem dL_law_1039 : decode cL_law 1039 = .ok (.iconst 2, 1) := dk_5 (dk_at dksL_law_39 22 rfl rfl)
theorem dL_law_1040 : decode cL_law 1040 = .ok (.iadd, 1) := dk_96 (dk_at dksL_law_39 23 rfl rfl)
theorem dL_law_1041 : decode cL_law 1041 = .ok (.iaload, 1) := dk_46 (dk_at dksL_law_40 0 rfl rfl)
theorem dL_law_1042 : decode cL_law 1042 = .ok (.aload_n 3, 1) := dk_45 (dk_at dksL_law_40 1 rfl rfl)
theorem dL_law_1043 : decode cL_law 1043 = .ok (.invokestatic 155, 3) := dk_184 0 155 (dk_at dksL_law_40 2 rfl rfl)
theorem dL_law_1046 : decode cL_law 1046 = .ok (.istore 5, 2) := dk_54 5 (dk_at dksL_law_40 5 rfl rfl)
theorem dL_law_1048 : decode cL_law 1048 = .ok (.aload_n 2, 1) := dk_44 (dk_at dksL_law_40 7 rfl rfl)
theorem dL_law_1049 : decode cL_law 1049 = .ok (.aload_n 0, 1) := dk_42 (dk_at dksL_law_40 8 rfl rfl)
theorem dL_law_1050 : decode cL_law 1050 = .ok (.iload 4, 2) := dk_21 4 (dk_at dksL_law_40 9 rfl rfl)
theorem dL_law_1052 : decode cL_law 1052 = .ok (.iconst 1, 1) := dk_4 (dk_at dksL_law_40 11 rfl rfl)
theorem dL_law_1053 : decode cL_law 1053 = .ok (.iadd, 1) := dk_96 (dk_at dksL_law_40 12 rfl rfl)
theorem dL_law_1054 : decode cL_law 1054 = .ok (.iaload, 1) := dk_46 (dk_at dksL_law_40 13 rfl rfl)
theorem dL_law_1055 : decode cL_law 1055 = .ok (.aload_n 0, 1) := dk_42 (dk_at dksL_law_40 14 rfl rfl)
theorem dL_law_1056 : decode cL_law 1056 = .ok (.iload 4, 2) := dk_21 4 (dk_at dksL_law_40 15 rfl rfl)
theorem dL_law_1058 : decode cL_law 1058 = .ok (.iconst 2, 1) := dk_5 (dk_at dksL_law_40 17 rfl rfl)
theorem dL_law_1059 : decode cL_law 1059 = .ok (.iadd, 1) := dk_96 (dk_at dksL_law_40 18 rfl rfl)
theorem dL_law_1060 : decode cL_law 1060 = .ok (.iaload, 1) := dk_46 (dk_at dksL_law_40 19 rfl rfl)
theorem dL_law_1061 : decode cL_law 1061 = .ok (.invokevirtual 157, 3) := dk_182 0 157 (dk_at dksL_law_40 20 rfl rfl)
theorem dL_law_1064 : decode cL_law 1064 = .ok (.istore 6, 2) := dk_54 6 (dk_at dksL_law_41 0 rfl rfl)
theorem dL_law_1066 : decode cL_law 1066 = .ok (.aload_n 2, 1) := dk_44 (dk_at dksL_law_41 2 rfl rfl)
theorem dL_law_1067 : decode cL_law 1067 = .ok (.invokevirtual 87, 3) := dk_182 0 87 (dk_at dksL_law_41 3 rfl rfl)
theorem dL_law_1070 : decode cL_law 1070 = .ok (.iload 5, 2) := dk_21 5 (dk_at dksL_law_41 6 rfl rfl)
theorem dL_law_1072 : decode cL_law 1072 = .ok (.if_icmp .eq 5, 3) := dk_159 0 5 (dk_at dksL_law_41 8 rfl rfl)
theorem dL_law_1075 : decode cL_law 1075 = .ok (.iconst 0, 1) := dk_3 (dk_at dksL_law_41 11 rfl rfl)
theorem dL_law_1076 : decode cL_law 1076 = .ok (.ireturn, 1) := dk_172 (dk_at dksL_law_41 12 rfl rfl)
theorem dL_law_1077 : decode cL_law 1077 = .ok (.iload 5, 2) := dk_21 5 (dk_at dksL_law_41 13 rfl rfl)
theorem dL_law_1079 : decode cL_law 1079 = .ok (.ifCond .ne 22, 3) := dk_154 0 22 (dk_at dksL_law_41 15 rfl rfl)
theorem dL_law_1082 : decode cL_law 1082 = .ok (.aload_n 3, 1) := dk_45 (dk_at dksL_law_41 18 rfl rfl)
theorem dL_law_1083 : decode cL_law 1083 = .ok (.iconst 0, 1) := dk_3 (dk_at dksL_law_41 19 rfl rfl)
theorem dL_law_1084 : decode cL_law 1084 = .ok (.laload, 1) := dk_47 (dk_at dksL_law_41 20 rfl rfl)
theorem dL_law_1085 : decode cL_law 1085 = .ok (.iload 6, 2) := dk_21 6 (dk_at dksL_law_41 21 rfl rfl)
theorem dL_law_1087 : decode cL_law 1087 = .ok (.ifCond .eq 7, 3) := dk_153 0 7 (dk_at dksL_law_42 0 rfl rfl)
theorem dL_law_1090 : decode cL_law 1090 = .ok (.lconst 1, 1) := dk_10 (dk_at dksL_law_42 3 rfl rfl)
theorem dL_law_1091 : decode cL_law 1091 = .ok (.goto 4, 3) := dk_167 0 4 (dk_at dksL_law_42 4 rfl rfl)
theorem dL_law_1094 : decode cL_law 1094 = .ok (.lconst 0, 1) := dk_9 (dk_at dksL_law_42 7 rfl rfl)
theorem dL_law_1095 : decode cL_law 1095 = .ok (.lcmp, 1) := dk_148 (dk_at dksL_law_42 8 rfl rfl)
theorem dL_law_1096 : decode cL_law 1096 = .ok (.ifCond .eq 5, 3) := dk_153 0 5 (dk_at dksL_law_42 9 rfl rfl)
theorem dL_law_1099 : decode cL_law 1099 = .ok (.iconst 0, 1) := dk_3 (dk_at dksL_law_42 12 rfl rfl)
theorem dL_law_1100 : decode cL_law 1100 = .ok (.ireturn, 1) := dk_172 (dk_at dksL_law_42 13 rfl rfl)
theorem dL_law_1101 : decode cL_law 1101 = .ok (.goto 408, 3) := dk_167 1 152 (dk_at dksL_law_42 14 rfl rfl)
theorem dL_law_1104 : decode cL_law 1104 = .ok (.aload_n 1, 1) := dk_43 (dk_at dksL_law_42 17 rfl rfl)
theorem dL_law_1105 : decode cL_law 1105 = .ok (.aload_n 0, 1) := dk_42 (dk_at dksL_law_42 18 rfl rfl)
theorem dL_law_1106 : decode cL_law 1106 = .ok (.iload 4, 2) := dk_21 4 (dk_at dksL_law_42 19 rfl rfl)
theorem dL_law_1108 : decode cL_law 1108 = .ok (.iconst 1, 1) := dk_4 (dk_at dksL_law_42 21 rfl rfl)
theorem dL_law_1109 : decode cL_law 1109 = .ok (.iadd, 1) := dk_96 (dk_at dksL_law_42 22 rfl rfl)
theorem dL_law_1110 : decode cL_law 1110 = .ok (.iaload, 1) := dk_46 (dk_at dksL_law_42 23 rfl rfl)
theorem dL_law_1111 : decode cL_law 1111 = .ok (.aload_n 0, 1) := dk_42 (dk_at dksL_law_43 0 rfl rfl)
theorem dL_law_1112 : decode cL_law 1112 = .ok (.iload 4, 2) := dk_21 4 (dk_at dksL_law_43 1 rfl rfl)
theorem dL_law_1114 : decode cL_law 1114 = .ok (.iconst 2, 1) := dk_5 (dk_at dksL_law_43 3 rfl rfl)
theorem dL_law_1115 : decode cL_law 1115 = .ok (.iadd, 1) := dk_96 (dk_at dksL_law_43 4 rfl rfl)
theorem dL_law_1116 : decode cL_law 1116 = .ok (.iaload, 1) := dk_46 (dk_at dksL_law_43 5 rfl rfl)
theorem dL_law_1117 : decode cL_law 1117 = .ok (.aload_n 3, 1) := dk_45 (dk_at dksL_law_43 6 rfl rfl)
theorem dL_law_1118 : decode cL_law 1118 = .ok (.invokestatic 158, 3) := dk_184 0 158 (dk_at dksL_law_43 7 rfl rfl)
theorem dL_law_1121 : decode cL_law 1121 = .ok (.istore 5, 2) := dk_54 5 (dk_at dksL_law_43 10 rfl rfl)
theorem dL_law_1123 : decode cL_law 1123 = .ok (.aload_n 2, 1) := dk_44 (dk_at dksL_law_43 12 rfl rfl)
theorem dL_law_1124 : decode cL_law 1124 = .ok (.aload_n 0, 1) := dk_42 (dk_at dksL_law_43 13 rfl rfl)
theorem dL_law_1125 : decode cL_law 1125 = .ok (.iload 4, 2) := dk_21 4 (dk_at dksL_law_43 14 rfl rfl)
theorem dL_law_1127 : decode cL_law 1127 = .ok (.iconst 1, 1) := dk_4 (dk_at dksL_law_43 16 rfl rfl)
theorem dL_law_1128 : decode cL_law 1128 = .ok (.iadd, 1) := dk_96 (dk_at dksL_law_43 17 rfl rfl)
theorem dL_law_1129 : decode cL_law 1129 = .ok (.iaload, 1) := dk_46 (dk_at dksL_law_43 18 rfl rfl)
theorem dL_law_1130 : decode cL_law 1130 = .ok (.aload_n 0, 1) := dk_42 (dk_at dksL_law_43 19 rfl rfl)
theorem dL_law_1131 : decode cL_law 1131 = .ok (.iload 4, 2) := dk_21 4 (dk_at dksL_law_43 20 rfl rfl)
theorem dL_law_1133 : decode cL_law 1133 = .ok (.iconst 2, 1) := dk_5 (dk_at dksL_law_43 22 rfl rfl)
theorem dL_law_1134 : decode cL_law 1134 = .ok (.iadd, 1) := dk_96 (dk_at dksL_law_43 23 rfl rfl)
theorem dL_law_1135 : decode cL_law 1135 = .ok (.iaload, 1) := dk_46 (dk_at dksL_law_44 0 rfl rfl)
theorem dL_law_1136 : decode cL_law 1136 = .ok (.invokevirtual 160, 3) := dk_182 0 160 (dk_at dksL_law_44 1 rfl rfl)
theorem dL_law_1139 : decode cL_law 1139 = .ok (.istore 6, 2) := dk_54 6 (dk_at dksL_law_44 4 rfl rfl)
theorem dL_law_1141 : decode cL_law 1141 = .ok (.aload_n 2, 1) := dk_44 (dk_at dksL_law_44 6 rfl rfl)
theorem dL_law_1142 : decode cL_law 1142 = .ok (.invokevirtual 87, 3) := dk_182 0 87 (dk_at dksL_law_44 7 rfl rfl)
theorem dL_law_1145 : decode cL_law 1145 = .ok (.iload 5, 2) := dk_21 5 (dk_at dksL_law_44 10 rfl rfl)
theorem dL_law_1147 : decode cL_law 1147 = .ok (.if_icmp .eq 5, 3) := dk_159 0 5 (dk_at dksL_law_44 12 rfl rfl)
theorem dL_law_1150 : decode cL_law 1150 = .ok (.iconst 0, 1) := dk_3 (dk_at dksL_law_44 15 rfl rfl)
theorem dL_law_1151 : decode cL_law 1151 = .ok (.ireturn, 1) := dk_172 (dk_at dksL_law_44 16 rfl rfl)
theorem dL_law_1152 : decode cL_law 1152 = .ok (.iload 5, 2) := dk_21 5 (dk_at dksL_law_44 17 rfl rfl)
theorem dL_law_1154 : decode cL_law 1154 = .ok (.ifCond .ne 15, 3) := dk_154 0 15 (dk_at dksL_law_44 19 rfl rfl)
theorem dL_law_1157 : decode cL_law 1157 = .ok (.aload_n 3, 1) := dk_45 (dk_at dksL_law_44 22 rfl rfl)
theorem dL_law_1158 : decode cL_law 1158 = .ok (.iconst 0, 1) := dk_3 (dk_at dksL_law_44 23 rfl rfl)
theorem dL_law_1159 : decode cL_law 1159 = .ok (.laload, 1) := dk_47 (dk_at dksL_law_45 0 rfl rfl)
theorem dL_law_1160 : decode cL_law 1160 = .ok (.iload 6, 2) := dk_21 6 (dk_at dksL_law_45 1 rfl rfl)
theorem dL_law_1162 : decode cL_law 1162 = .ok (.i2l, 1) := dk_133 (dk_at dksL_law_45 3 rfl rfl)
theorem dL_law_1163 : decode cL_law 1163 = .ok (.lcmp, 1) := dk_148 (dk_at dksL_law_45 4 rfl rfl)
theorem dL_law_1164 : decode cL_law 1164 = .ok (.ifCond .eq 5, 3) := dk_153 0 5 (dk_at dksL_law_45 5 rfl rfl)
theorem dL_law_1167 : decode cL_law 1167 = .ok (.iconst 0, 1) := dk_3 (dk_at dksL_law_45 8 rfl rfl)
theorem dL_law_1168 : decode cL_law 1168 = .ok (.ireturn, 1) := dk_172 (dk_at dksL_law_45 9 rfl rfl)
theorem dL_law_1169 : decode cL_law 1169 = .ok (.goto 340, 3) := dk_167 1 84 (dk_at dksL_law_45 10 rfl rfl)
theorem dL_law_1172 : decode cL_law 1172 = .ok (.aload_n 1, 1) := dk_43 (dk_at dksL_law_45 13 rfl rfl)
theorem dL_law_1173 : decode cL_law 1173 = .ok (.invokevirtual 161, 3) := dk_182 0 161 (dk_at dksL_law_45 14 rfl rfl)
theorem dL_law_1176 : decode cL_law 1176 = .ok (.aload_n 2, 1) := dk_44 (dk_at dksL_law_45 17 rfl rfl)
theorem dL_law_1177 : decode cL_law 1177 = .ok (.invokevirtual 164, 3) := dk_182 0 164 (dk_at dksL_law_45 18 rfl rfl)
theorem dL_law_1180 : decode cL_law 1180 = .ok (.if_icmp .eq 329, 3) := dk_159 1 73 (dk_at dksL_law_45 21 rfl rfl)
theorem dL_law_1183 : decode cL_law 1183 = .ok (.iconst 0, 1) := dk_3 (dk_at dksL_law_46 0 rfl rfl)
theorem dL_law_1184 : decode cL_law 1184 = .ok (.ireturn, 1) := dk_172 (dk_at dksL_law_46 1 rfl rfl)
theorem dL_law_1185 : decode cL_law 1185 = .ok (.aload_n 1, 1) := dk_43 (dk_at dksL_law_46 2 rfl rfl)
theorem dL_law_1186 : decode cL_law 1186 = .ok (.aload_n 0, 1) := dk_42 (dk_at dksL_law_46 3 rfl rfl)
theorem dL_law_1187 : decode cL_law 1187 = .ok (.iload 4, 2) := dk_21 4 (dk_at dksL_law_46 4 rfl rfl)
theorem dL_law_1189 : decode cL_law 1189 = .ok (.iconst 1, 1) := dk_4 (dk_at dksL_law_46 6 rfl rfl)
theorem dL_law_1190 : decode cL_law 1190 = .ok (.iadd, 1) := dk_96 (dk_at dksL_law_46 7 rfl rfl)
theorem dL_law_1191 : decode cL_law 1191 = .ok (.iaload, 1) := dk_46 (dk_at dksL_law_46 8 rfl rfl)
theorem dL_law_1192 : decode cL_law 1192 = .ok (.aload_n 0, 1) := dk_42 (dk_at dksL_law_46 9 rfl rfl)
theorem dL_law_1193 : decode cL_law 1193 = .ok (.iload 4, 2) := dk_21 4 (dk_at dksL_law_46 10 rfl rfl)
theorem dL_law_1195 : decode cL_law 1195 = .ok (.iconst 2, 1) := dk_5 (dk_at dksL_law_46 12 rfl rfl)
theorem dL_law_1196 : decode cL_law 1196 = .ok (.iadd, 1) := dk_96 (dk_at dksL_law_46 13 rfl rfl)
theorem dL_law_1197 : decode cL_law 1197 = .ok (.iaload, 1) := dk_46 (dk_at dksL_law_46 14 rfl rfl)
theorem dL_law_1198 : decode cL_law 1198 = .ok (.aload_n 3, 1) := dk_45 (dk_at dksL_law_46 15 rfl rfl)
theorem dL_law_1199 : decode cL_law 1199 = .ok (.invokestatic 165, 3) := dk_184 0 165 (dk_at dksL_law_46 16 rfl rfl)
theorem dL_law_1202 : decode cL_law 1202 = .ok (.istore 5, 2) := dk_54 5 (dk_at dksL_law_46 19 rfl rfl)
theorem dL_law_1204 : decode cL_law 1204 = .ok (.aload_n 2, 1) := dk_44 (dk_at dksL_law_46 21 rfl rfl)
theorem dL_law_1205 : decode cL_law 1205 = .ok (.aload_n 0, 1) := dk_42 (dk_at dksL_law_46 22 rfl rfl)
theorem dL_law_1206 : decode cL_law 1206 = .ok (.iload 4, 2) := dk_21 4 (dk_at dksL_law_47 0 rfl rfl)
theorem dL_law_1208 : decode cL_law 1208 = .ok (.iconst 1, 1) := dk_4 (dk_at dksL_law_47 2 rfl rfl)
theorem dL_law_1209 : decode cL_law 1209 = .ok (.iadd, 1) := dk_96 (dk_at dksL_law_47 3 rfl rfl)
theorem dL_law_1210 : decode cL_law 1210 = .ok (.iaload, 1) := dk_46 (dk_at dksL_law_47 4 rfl rfl)
theorem dL_law_1211 : decode cL_law 1211 = .ok (.aload_n 0, 1) := dk_42 (dk_at dksL_law_47 5 rfl rfl)
theorem dL_law_1212 : decode cL_law 1212 = .ok (.iload 4, 2) := dk_21 4 (dk_at dksL_law_47 6 rfl rfl)
theorem dL_law_1214 : decode cL_law 1214 = .ok (.iconst 2, 1) := dk_5 (dk_at dksL_law_47 8 rfl rfl)
theorem dL_law_1215 : decode cL_law 1215 = .ok (.iadd, 1) := dk_96 (dk_at dksL_law_47 9 rfl rfl)
theorem dL_law_1216 : decode cL_law 1216 = .ok (.iaload, 1) := dk_46 (dk_at dksL_law_47 10 rfl rfl)
theorem dL_law_1217 : decode cL_law 1217 = .ok (.invokevirtual 167, 3) := dk_182 0 167 (dk_at dksL_law_47 11 rfl rfl)
theorem dL_law_1220 : decode cL_law 1220 = .ok (.istore 6, 2) := dk_54 6 (dk_at dksL_law_47 14 rfl rfl)
theorem dL_law_1222 : decode cL_law 1222 = .ok (.aload_n 2, 1) := dk_44 (dk_at dksL_law_47 16 rfl rfl)
theorem dL_law_1223 : decode cL_law 1223 = .ok (.invokevirtual 87, 3) := dk_182 0 87 (dk_at dksL_law_47 17 rfl rfl)
theorem dL_law_1226 : decode cL_law 1226 = .ok (.iload 5, 2) := dk_21 5 (dk_at dksL_law_47 20 rfl rfl)
theorem dL_law_1228 : decode cL_law 1228 = .ok (.if_icmp .eq 5, 3) := dk_159 0 5 (dk_at dksL_law_48 0 rfl rfl)
theorem dL_law_1231 : decode cL_law 1231 = .ok (.iconst 0, 1) := dk_3 (dk_at dksL_law_48 3 rfl rfl)
theorem dL_law_1232 : decode cL_law 1232 = .ok (.ireturn, 1) := dk_172 (dk_at dksL_law_48 4 rfl rfl)
theorem dL_law_1233 : decode cL_law 1233 = .ok (.iload 5, 2) := dk_21 5 (dk_at dksL_law_48 5 rfl rfl)
theorem dL_law_1235 : decode cL_law 1235 = .ok (.ifCond .ne 15, 3) := dk_154 0 15 (dk_at dksL_law_48 7 rfl rfl)
theorem dL_law_1238 : decode cL_law 1238 = .ok (.aload_n 3, 1) := dk_45 (dk_at dksL_law_48 10 rfl rfl)
theorem dL_law_1239 : decode cL_law 1239 = .ok (.iconst 0, 1) := dk_3 (dk_at dksL_law_48 11 rfl rfl)
theorem dL_law_1240 : decode cL_law 1240 = .ok (.laload, 1) := dk_47 (dk_at dksL_law_48 12 rfl rfl)
theorem dL_law_1241 : decode cL_law 1241 = .ok (.iload 6, 2) := dk_21 6 (dk_at dksL_law_48 13 rfl rfl)
theorem dL_law_1243 : decode cL_law 1243 = .ok (.i2l, 1) := dk_133 (dk_at dksL_law_48 15 rfl rfl)
theorem dL_law_1244 : decode cL_law 1244 = .ok (.lcmp, 1) := dk_148 (dk_at dksL_law_48 16 rfl rfl)
theorem dL_law_1245 : decode cL_law 1245 = .ok (.ifCond .eq 5, 3) := dk_153 0 5 (dk_at dksL_law_48 17 rfl rfl)
theorem dL_law_1248 : decode cL_law 1248 = .ok (.iconst 0, 1) := dk_3 (dk_at dksL_law_48 20 rfl rfl)
theorem dL_law_1249 : decode cL_law 1249 = .ok (.ireturn, 1) := dk_172 (dk_at dksL_law_48 21 rfl rfl)
theorem dL_law_1250 : decode cL_law 1250 = .ok (.goto 259, 3) := dk_167 1 3 (dk_at dksL_law_49 0 rfl rfl)
theorem dL_law_1253 : decode cL_law 1253 = .ok (.aload_n 1, 1) := dk_43 (dk_at dksL_law_49 3 rfl rfl)
theorem dL_law_1254 : decode cL_law 1254 = .ok (.aload_n 0, 1) := dk_42 (dk_at dksL_law_49 4 rfl rfl)
theorem dL_law_1255 : decode cL_law 1255 = .ok (.iload 4, 2) := dk_21 4 (dk_at dksL_law_49 5 rfl rfl)
theorem dL_law_1257 : decode cL_law 1257 = .ok (.iconst 1, 1) := dk_4 (dk_at dksL_law_49 7 rfl rfl)
theorem dL_law_1258 : decode cL_law 1258 = .ok (.iadd, 1) := dk_96 (dk_at dksL_law_49 8 rfl rfl)
theorem dL_law_1259 : decode cL_law 1259 = .ok (.iaload, 1) := dk_46 (dk_at dksL_law_49 9 rfl rfl)
theorem dL_law_1260 : decode cL_law 1260 = .ok (.aload_n 3, 1) := dk_45 (dk_at dksL_law_49 10 rfl rfl)
theorem dL_law_1261 : decode cL_law 1261 = .ok (.invokestatic 168, 3) := dk_184 0 168 (dk_at dksL_law_49 11 rfl rfl)
theorem dL_law_1264 : decode cL_law 1264 = .ok (.istore 5, 2) := dk_54 5 (dk_at dksL_law_49 14 rfl rfl)
theorem dL_law_1266 : decode cL_law 1266 = .ok (.aload_n 2, 1) := dk_44 (dk_at dksL_law_49 16 rfl rfl)
theorem dL_law_1267 : decode cL_law 1267 = .ok (.aload_n 0, 1) := dk_42 (dk_at dksL_law_49 17 rfl rfl)
theorem dL_law_1268 : decode cL_law 1268 = .ok (.iload 4, 2) := dk_21 4 (dk_at dksL_law_49 18 rfl rfl)
theorem dL_law_1270 : decode cL_law 1270 = .ok (.iconst 1, 1) := dk_4 (dk_at dksL_law_49 20 rfl rfl)
theorem dL_law_1271 : decode cL_law 1271 = .ok (.iadd, 1) := dk_96 (dk_at dksL_law_49 21 rfl rfl)
theorem dL_law_1272 : decode cL_law 1272 = .ok (.iaload, 1) := dk_46 (dk_at dksL_law_49 22 rfl rfl)
theorem dL_law_1273 : decode cL_law 1273 = .ok (.invokevirtual 170, 3) := dk_182 0 170 (dk_at dksL_law_50 0 rfl rfl)
theorem dL_law_1276 : decode cL_law 1276 = .ok (.istore 6, 2) := dk_54 6 (dk_at dksL_law_50 3 rfl rfl)
theorem dL_law_1278 : decode cL_law 1278 = .ok (.aload_n 2, 1) := dk_44 (dk_at dksL_law_50 5 rfl rfl)
theorem dL_law_1279 : decode cL_law 1279 = .ok (.invokevirtual 87, 3) := dk_182 0 87 (dk_at dksL_law_50 6 rfl rfl)
theorem dL_law_1282 : decode cL_law 1282 = .ok (.iload 5, 2) := dk_21 5 (dk_at dksL_law_50 9 rfl rfl)
theorem dL_law_1284 : decode cL_law 1284 = .ok (.if_icmp .eq 5, 3) := dk_159 0 5 (dk_at dksL_law_50 11 rfl rfl)
theorem dL_law_1287 : decode cL_law 1287 = .ok (.iconst 0, 1) := dk_3 (dk_at dksL_law_50 14 rfl rfl)
theorem dL_law_1288 : decode cL_law 1288 = .ok (.ireturn, 1) := dk_172 (dk_at dksL_law_50 15 rfl rfl)
theorem dL_law_1289 : decode cL_law 1289 = .ok (.iload 5, 2) := dk_21 5 (dk_at dksL_law_50 16 rfl rfl)
theorem dL_law_1291 : decode cL_law 1291 = .ok (.ifCond .ne 15, 3) := dk_154 0 15 (dk_at dksL_law_50 18 rfl rfl)
theorem dL_law_1294 : decode cL_law 1294 = .ok (.aload_n 3, 1) := dk_45 (dk_at dksL_law_50 21 rfl rfl)
theorem dL_law_1295 : decode cL_law 1295 = .ok (.iconst 0, 1) := dk_3 (dk_at dksL_law_50 22 rfl rfl)
theorem dL_law_1296 : decode cL_law 1296 = .ok (.laload, 1) := dk_47 (dk_at dksL_law_50 23 rfl rfl)
theorem dL_law_1297 : decode cL_law 1297 = .ok (.iload 6, 2) := dk_21 6 (dk_at dksL_law_51 0 rfl rfl)
theorem dL_law_1299 : decode cL_law 1299 = .ok (.i2l, 1) := dk_133 (dk_at dksL_law_51 2 rfl rfl)
theorem dL_law_1300 : decode cL_law 1300 = .ok (.lcmp, 1) := dk_148 (dk_at dksL_law_51 3 rfl rfl)
theorem dL_law_1301 : decode cL_law 1301 = .ok (.ifCond .eq 5, 3) := dk_153 0 5 (dk_at dksL_law_51 4 rfl rfl)
theorem dL_law_1304 : decode cL_law 1304 = .ok (.iconst 0, 1) := dk_3 (dk_at dksL_law_51 7 rfl rfl)
theorem dL_law_1305 : decode cL_law 1305 = .ok (.ireturn, 1) := dk_172 (dk_at dksL_law_51 8 rfl rfl)
theorem dL_law_1306 : decode cL_law 1306 = .ok (.goto 203, 3) := dk_167 0 203 (dk_at dksL_law_51 9 rfl rfl)
theorem dL_law_1309 : decode cL_law 1309 = .ok (.aload_n 1, 1) := dk_43 (dk_at dksL_law_51 12 rfl rfl)
theorem dL_law_1310 : decode cL_law 1310 = .ok (.aload_n 0, 1) := dk_42 (dk_at dksL_law_51 13 rfl rfl)
theorem dL_law_1311 : decode cL_law 1311 = .ok (.iload 4, 2) := dk_21 4 (dk_at dksL_law_51 14 rfl rfl)
theorem dL_law_1313 : decode cL_law 1313 = .ok (.iconst 1, 1) := dk_4 (dk_at dksL_law_51 16 rfl rfl)
theorem dL_law_1314 : decode cL_law 1314 = .ok (.iadd, 1) := dk_96 (dk_at dksL_law_51 17 rfl rfl)
theorem dL_law_1315 : decode cL_law 1315 = .ok (.iaload, 1) := dk_46 (dk_at dksL_law_51 18 rfl rfl)
theorem dL_law_1316 : decode cL_law 1316 = .ok (.aload_n 0, 1) := dk_42 (dk_at dksL_law_51 19 rfl rfl)
theorem dL_law_1317 : decode cL_law 1317 = .ok (.iload 4, 2) := dk_21 4 (dk_at dksL_law_51 20 rfl rfl)
theorem dL_law_1319 : decode cL_law 1319 = .ok (.iconst 2, 1) := dk_5 (dk_at dksL_law_51 22 rfl rfl)
theorem dL_law_1320 : decode cL_law 1320 = .ok (.iadd, 1) := dk_96 (dk_at dksL_law_51 23 rfl rfl)
theorem dL_law_1321 : decode cL_law 1321 = .ok (.iaload, 1) := dk_46 (dk_at dksL_law_52 0 rfl rfl)
theorem dL_law_1322 : decode cL_law 1322 = .ok (.aload_n 0, 1) := dk_42 (dk_at dksL_law_52 1 rfl rfl)
theorem dL_law_1323 : decode cL_law 1323 = .ok (.iload 4, 2) := dk_21 4 (dk_at dksL_law_52 2 rfl rfl)
theorem dL_law_1325 : decode cL_law 1325 = .ok (.iconst 3, 1) := dk_6 (dk_at dksL_law_52 4 rfl rfl)
theorem dL_law_1326 : decode cL_law 1326 = .ok (.iadd, 1) := dk_96 (dk_at dksL_law_52 5 rfl rfl)
theorem dL_law_1327 : decode cL_law 1327 = .ok (.iaload, 1) := dk_46 (dk_at dksL_law_52 6 rfl rfl)
theorem dL_law_1328 : decode cL_law 1328 = .ok (.aload_n 3, 1) := dk_45 (dk_at dksL_law_52 7 rfl rfl)
theorem dL_law_1329 : decode cL_law 1329 = .ok (.invokestatic 171, 3) := dk_184 0 171 (dk_at dksL_law_52 8 rfl rfl)
theorem dL_law_1332 : decode cL_law 1332 = .ok (.istore 5, 2) := dk_54 5 (dk_at dksL_law_52 11 rfl rfl)
theorem dL_law_1334 : decode cL_law 1334 = .ok (.aload_n 2, 1) := dk_44 (dk_at dksL_law_52 13 rfl rfl)
theorem dL_law_1335 : decode cL_law 1335 = .ok (.aload_n 0, 1) := dk_42 (dk_at dksL_law_52 14 rfl rfl)
theorem dL_law_1336 : decode cL_law 1336 = .ok (.iload 4, 2) := dk_21 4 (dk_at dksL_law_52 15 rfl rfl)
theorem dL_law_1338 : decode cL_law 1338 = .ok (.iconst 1, 1) := dk_4 (dk_at dksL_law_52 17 rfl rfl)
theorem dL_law_1339 : decode cL_law 1339 = .ok (.iadd, 1) := dk_96 (dk_at dksL_law_52 18 rfl rfl)
theorem dL_law_1340 : decode cL_law 1340 = .ok (.iaload, 1) := dk_46 (dk_at dksL_law_52 19 rfl rfl)
theorem dL_law_1341 : decode cL_law 1341 = .ok (.aload_n 0, 1) := dk_42 (dk_at dksL_law_52 20 rfl rfl)
theorem dL_law_1342 : decode cL_law 1342 = .ok (.iload 4, 2) := dk_21 4 (dk_at dksL_law_52 21 rfl rfl)
theorem dL_law_1344 : decode cL_law 1344 = .ok (.iconst 2, 1) := dk_5 (dk_at dksL_law_52 23 rfl rfl)
theorem dL_law_1345 : decode cL_law 1345 = .ok (.iadd, 1) := dk_96 (dk_at dksL_law_53 0 rfl rfl)
theorem dL_law_1346 : decode cL_law 1346 = .ok (.iaload, 1) := dk_46 (dk_at dksL_law_53 1 rfl rfl)
theorem dL_law_1347 : decode cL_law 1347 = .ok (.aload_n 0, 1) := dk_42 (dk_at dksL_law_53 2 rfl rfl)
theorem dL_law_1348 : decode cL_law 1348 = .ok (.iload 4, 2) := dk_21 4 (dk_at dksL_law_53 3 rfl rfl)
theorem dL_law_1350 : decode cL_law 1350 = .ok (.iconst 3, 1) := dk_6 (dk_at dksL_law_53 5 rfl rfl)
theorem dL_law_1351 : decode cL_law 1351 = .ok (.iadd, 1) := dk_96 (dk_at dksL_law_53 6 rfl rfl)
theorem dL_law_1352 : decode cL_law 1352 = .ok (.iaload, 1) := dk_46 (dk_at dksL_law_53 7 rfl rfl)
theorem dL_law_1353 : decode cL_law 1353 = .ok (.invokevirtual 173, 3) := dk_182 0 173 (dk_at dksL_law_53 8 rfl rfl)
theorem dL_law_1356 : decode cL_law 1356 = .ok (.istore 6, 2) := dk_54 6 (dk_at dksL_law_53 11 rfl rfl)
theorem dL_law_1358 : decode cL_law 1358 = .ok (.aload_n 2, 1) := dk_44 (dk_at dksL_law_53 13 rfl rfl)
theorem dL_law_1359 : decode cL_law 1359 = .ok (.invokevirtual 87, 3) := dk_182 0 87 (dk_at dksL_law_53 14 rfl rfl)
theorem dL_law_1362 : decode cL_law 1362 = .ok (.iload 5, 2) := dk_21 5 (dk_at dksL_law_53 17 rfl rfl)
theorem dL_law_1364 : decode cL_law 1364 = .ok (.if_icmp .eq 5, 3) := dk_159 0 5 (dk_at dksL_law_53 19 rfl rfl)
theorem dL_law_1367 : decode cL_law 1367 = .ok (.iconst 0, 1) := dk_3 (dk_at dksL_law_53 22 rfl rfl)
theorem dL_law_1368 : decode cL_law 1368 = .ok (.ireturn, 1) := dk_172 (dk_at dksL_law_53 23 rfl rfl)
theorem dL_law_1369 : decode cL_law 1369 = .ok (.iload 5, 2) := dk_21 5 (dk_at dksL_law_54 0 rfl rfl)
theorem dL_law_1371 : decode cL_law 1371 = .ok (.ifCond .ne 15, 3) := dk_154 0 15 (dk_at dksL_law_54 2 rfl rfl)
theorem dL_law_1374 : decode cL_law 1374 = .ok (.aload_n 3, 1) := dk_45 (dk_at dksL_law_54 5 rfl rfl)
theorem dL_law_1375 : decode cL_law 1375 = .ok (.iconst 0, 1) := dk_3 (dk_at dksL_law_54 6 rfl rfl)
theorem dL_law_1376 : decode cL_law 1376 = .ok (.laload, 1) := dk_47 (dk_at dksL_law_54 7 rfl rfl)
theorem dL_law_1377 : decode cL_law 1377 = .ok (.iload 6, 2) := dk_21 6 (dk_at dksL_law_54 8 rfl rfl)
theorem dL_law_1379 : decode cL_law 1379 = .ok (.i2l, 1) := dk_133 (dk_at dksL_law_54 10 rfl rfl)
theorem dL_law_1380 : decode cL_law 1380 = .ok (.lcmp, 1) := dk_148 (dk_at dksL_law_54 11 rfl rfl)
theorem dL_law_1381 : decode cL_law 1381 = .ok (.ifCond .eq 5, 3) := dk_153 0 5 (dk_at dksL_law_54 12 rfl rfl)
theorem dL_law_1384 : decode cL_law 1384 = .ok (.iconst 0, 1) := dk_3 (dk_at dksL_law_54 15 rfl rfl)
theorem dL_law_1385 : decode cL_law 1385 = .ok (.ireturn, 1) := dk_172 (dk_at dksL_law_54 16 rfl rfl)
theorem dL_law_1386 : decode cL_law 1386 = .ok (.goto 123, 3) := dk_167 0 123 (dk_at dksL_law_54 17 rfl rfl)
theorem dL_law_1389 : decode cL_law 1389 = .ok (.aload_n 1, 1) := dk_43 (dk_at dksL_law_54 20 rfl rfl)
theorem dL_law_1390 : decode cL_law 1390 = .ok (.aload_n 0, 1) := dk_42 (dk_at dksL_law_54 21 rfl rfl)
theorem dL_law_1391 : decode cL_law 1391 = .ok (.iload 4, 2) := dk_21 4 (dk_at dksL_law_54 22 rfl rfl)
theorem dL_law_1393 : decode cL_law 1393 = .ok (.iconst 1, 1) := dk_4 (dk_at dksL_law_55 0 rfl rfl)
theorem dL_law_1394 : decode cL_law 1394 = .ok (.iadd, 1) := dk_96 (dk_at dksL_law_55 1 rfl rfl)
theorem dL_law_1395 : decode cL_law 1395 = .ok (.iaload, 1) := dk_46 (dk_at dksL_law_55 2 rfl rfl)
theorem dL_law_1396 : decode cL_law 1396 = .ok (.aload_n 0, 1) := dk_42 (dk_at dksL_law_55 3 rfl rfl)
theorem dL_law_1397 : decode cL_law 1397 = .ok (.iload 4, 2) := dk_21 4 (dk_at dksL_law_55 4 rfl rfl)
theorem dL_law_1399 : decode cL_law 1399 = .ok (.iconst 2, 1) := dk_5 (dk_at dksL_law_55 6 rfl rfl)
theorem dL_law_1400 : decode cL_law 1400 = .ok (.iadd, 1) := dk_96 (dk_at dksL_law_55 7 rfl rfl)
theorem dL_law_1401 : decode cL_law 1401 = .ok (.iaload, 1) := dk_46 (dk_at dksL_law_55 8 rfl rfl)
theorem dL_law_1402 : decode cL_law 1402 = .ok (.aload_n 0, 1) := dk_42 (dk_at dksL_law_55 9 rfl rfl)
theorem dL_law_1403 : decode cL_law 1403 = .ok (.iload 4, 2) := dk_21 4 (dk_at dksL_law_55 10 rfl rfl)
theorem dL_law_1405 : decode cL_law 1405 = .ok (.iconst 3, 1) := dk_6 (dk_at dksL_law_55 12 rfl rfl)
theorem dL_law_1406 : decode cL_law 1406 = .ok (.iadd, 1) := dk_96 (dk_at dksL_law_55 13 rfl rfl)
theorem dL_law_1407 : decode cL_law 1407 = .ok (.iaload, 1) := dk_46 (dk_at dksL_law_55 14 rfl rfl)
theorem dL_law_1408 : decode cL_law 1408 = .ok (.aload_n 3, 1) := dk_45 (dk_at dksL_law_55 15 rfl rfl)
theorem dL_law_1409 : decode cL_law 1409 = .ok (.invokestatic 174, 3) := dk_184 0 174 (dk_at dksL_law_55 16 rfl rfl)
theorem dL_law_1412 : decode cL_law 1412 = .ok (.istore 5, 2) := dk_54 5 (dk_at dksL_law_55 19 rfl rfl)
theorem dL_law_1414 : decode cL_law 1414 = .ok (.aload_n 2, 1) := dk_44 (dk_at dksL_law_55 21 rfl rfl)
theorem dL_law_1415 : decode cL_law 1415 = .ok (.aload_n 0, 1) := dk_42 (dk_at dksL_law_55 22 rfl rfl)
theorem dL_law_1416 : decode cL_law 1416 = .ok (.iload 4, 2) := dk_21 4 (dk_at dksL_law_56 0 rfl rfl)
theorem dL_law_1418 : decode cL_law 1418 = .ok (.iconst 1, 1) := dk_4 (dk_at dksL_law_56 2 rfl rfl)
theorem dL_law_1419 : decode cL_law 1419 = .ok (.iadd, 1) := dk_96 (dk_at dksL_law_56 3 rfl rfl)
theorem dL_law_1420 : decode cL_law 1420 = .ok (.iaload, 1) := dk_46 (dk_at dksL_law_56 4 rfl rfl)
theorem dL_law_1421 : decode cL_law 1421 = .ok (.aload_n 0, 1) := dk_42 (dk_at dksL_law_56 5 rfl rfl)
theorem dL_law_1422 : decode cL_law 1422 = .ok (.iload 4, 2) := dk_21 4 (dk_at dksL_law_56 6 rfl rfl)
theorem dL_law_1424 : decode cL_law 1424 = .ok (.iconst 2, 1) := dk_5 (dk_at dksL_law_56 8 rfl rfl)
theorem dL_law_1425 : decode cL_law 1425 = .ok (.iadd, 1) := dk_96 (dk_at dksL_law_56 9 rfl rfl)
theorem dL_law_1426 : decode cL_law 1426 = .ok (.iaload, 1) := dk_46 (dk_at dksL_law_56 10 rfl rfl)
theorem dL_law_1427 : decode cL_law 1427 = .ok (.aload_n 0, 1) := dk_42 (dk_at dksL_law_56 11 rfl rfl)
theorem dL_law_1428 : decode cL_law 1428 = .ok (.iload 4, 2) := dk_21 4 (dk_at dksL_law_56 12 rfl rfl)
theorem dL_law_1430 : decode cL_law 1430 = .ok (.iconst 3, 1) := dk_6 (dk_at dksL_law_56 14 rfl rfl)
theorem dL_law_1431 : decode cL_law 1431 = .ok (.iadd, 1) := dk_96 (dk_at dksL_law_56 15 rfl rfl)
theorem dL_law_1432 : decode cL_law 1432 = .ok (.iaload, 1) := dk_46 (dk_at dksL_law_56 16 rfl rfl)
theorem dL_law_1433 : decode cL_law 1433 = .ok (.invokevirtual 176, 3) := dk_182 0 176 (dk_at dksL_law_56 17 rfl rfl)
theorem dL_law_1436 : decode cL_law 1436 = .ok (.istore 6, 2) := dk_54 6 (dk_at dksL_law_56 20 rfl rfl)
theorem dL_law_1438 : decode cL_law 1438 = .ok (.aload_n 2, 1) := dk_44 (dk_at dksL_law_56 22 rfl rfl)
theorem dL_law_1439 : decode cL_law 1439 = .ok (.invokevirtual 87, 3) := dk_182 0 87 (dk_at dksL_law_57 0 rfl rfl)
theorem dL_law_1442 : decode cL_law 1442 = .ok (.iload 5, 2) := dk_21 5 (dk_at dksL_law_57 3 rfl rfl)
theorem dL_law_1444 : decode cL_law 1444 = .ok (.if_icmp .eq 5, 3) := dk_159 0 5 (dk_at dksL_law_57 5 rfl rfl)
theorem dL_law_1447 : decode cL_law 1447 = .ok (.iconst 0, 1) := dk_3 (dk_at dksL_law_57 8 rfl rfl)
theorem dL_law_1448 : decode cL_law 1448 = .ok (.ireturn, 1) := dk_172 (dk_at dksL_law_57 9 rfl rfl)
theorem dL_law_1449 : decode cL_law 1449 = .ok (.iload 5, 2) := dk_21 5 (dk_at dksL_law_57 10 rfl rfl)
theorem dL_law_1451 : decode cL_law 1451 = .ok (.ifCond .ne 15, 3) := dk_154 0 15 (dk_at dksL_law_57 12 rfl rfl)
theorem dL_law_1454 : decode cL_law 1454 = .ok (.aload_n 3, 1) := dk_45 (dk_at dksL_law_57 15 rfl rfl)
theorem dL_law_1455 : decode cL_law 1455 = .ok (.iconst 0, 1) := dk_3 (dk_at dksL_law_57 16 rfl rfl)
theorem dL_law_1456 : decode cL_law 1456 = .ok (.laload, 1) := dk_47 (dk_at dksL_law_57 17 rfl rfl)
theorem dL_law_1457 : decode cL_law 1457 = .ok (.iload 6, 2) := dk_21 6 (dk_at dksL_law_57 18 rfl rfl)
theorem dL_law_1459 : decode cL_law 1459 = .ok (.i2l, 1) := dk_133 (dk_at dksL_law_57 20 rfl rfl)
theorem dL_law_1460 : decode cL_law 1460 = .ok (.lcmp, 1) := dk_148 (dk_at dksL_law_57 21 rfl rfl)
theorem dL_law_1461 : decode cL_law 1461 = .ok (.ifCond .eq 5, 3) := dk_153 0 5 (dk_at dksL_law_58 0 rfl rfl)
theorem dL_law_1464 : decode cL_law 1464 = .ok (.iconst 0, 1) := dk_3 (dk_at dksL_law_58 3 rfl rfl)
theorem dL_law_1465 : decode cL_law 1465 = .ok (.ireturn, 1) := dk_172 (dk_at dksL_law_58 4 rfl rfl)
theorem dL_law_1466 : decode cL_law 1466 = .ok (.goto 43, 3) := dk_167 0 43 (dk_at dksL_law_58 5 rfl rfl)
theorem dL_law_1469 : decode cL_law 1469 = .ok (.aload_n 1, 1) := dk_43 (dk_at dksL_law_58 8 rfl rfl)
theorem dL_law_1470 : decode cL_law 1470 = .ok (.invokevirtual 177, 3) := dk_182 0 177 (dk_at dksL_law_58 9 rfl rfl)
theorem dL_law_1473 : decode cL_law 1473 = .ok (.aload_n 2, 1) := dk_44 (dk_at dksL_law_58 12 rfl rfl)
theorem dL_law_1474 : decode cL_law 1474 = .ok (.invokevirtual 180, 3) := dk_182 0 180 (dk_at dksL_law_58 13 rfl rfl)
theorem dL_law_1477 : decode cL_law 1477 = .ok (.if_icmp .eq 32, 3) := dk_159 0 32 (dk_at dksL_law_58 16 rfl rfl)
theorem dL_law_1480 : decode cL_law 1480 = .ok (.iconst 0, 1) := dk_3 (dk_at dksL_law_58 19 rfl rfl)
theorem dL_law_1481 : decode cL_law 1481 = .ok (.ireturn, 1) := dk_172 (dk_at dksL_law_58 20 rfl rfl)
theorem dL_law_1482 : decode cL_law 1482 = .ok (.aload_n 1, 1) := dk_43 (dk_at dksL_law_58 21 rfl rfl)
theorem dL_law_1483 : decode cL_law 1483 = .ok (.invokevirtual 181, 3) := dk_182 0 181 (dk_at dksL_law_59 0 rfl rfl)
theorem dL_law_1486 : decode cL_law 1486 = .ok (.aload_n 2, 1) := dk_44 (dk_at dksL_law_59 3 rfl rfl)
theorem dL_law_1487 : decode cL_law 1487 = .ok (.invokevirtual 184, 3) := dk_182 0 184 (dk_at dksL_law_59 4 rfl rfl)
theorem dL_law_1490 : decode cL_law 1490 = .ok (.if_icmp .eq 19, 3) := dk_159 0 19 (dk_at dksL_law_59 7 rfl rfl)
theorem dL_law_1493 : decode cL_law 1493 = .ok (.iconst 0, 1) := dk_3 (dk_at dksL_law_59 10 rfl rfl)
theorem dL_law_1494 : decode cL_law 1494 = .ok (.ireturn, 1) := dk_172 (dk_at dksL_law_59 11 rfl rfl)
theorem dL_law_1495 : decode cL_law 1495 = .ok (.aload_n 1, 1) := dk_43 (dk_at dksL_law_59 12 rfl rfl)
theorem dL_law_1496 : decode cL_law 1496 = .ok (.invokevirtual 185, 3) := dk_182 0 185 (dk_at dksL_law_59 13 rfl rfl)
theorem dL_law_1499 : decode cL_law 1499 = .ok (.aload_n 2, 1) := dk_44 (dk_at dksL_law_59 16 rfl rfl)
theorem dL_law_1500 : decode cL_law 1500 = .ok (.invokevirtual 189, 3) := dk_182 0 189 (dk_at dksL_law_59 17 rfl rfl)
theorem dL_law_1503 : decode cL_law 1503 = .ok (.lcmp, 1) := dk_148 (dk_at dksL_law_59 20 rfl rfl)
theorem dL_law_1504 : decode cL_law 1504 = .ok (.ifCond .eq 5, 3) := dk_153 0 5 (dk_at dksL_law_59 21 rfl rfl)
theorem dL_law_1507 : decode cL_law 1507 = .ok (.iconst 0, 1) := dk_3 (dk_at dksL_law_60 0 rfl rfl)
theorem dL_law_1508 : decode cL_law 1508 = .ok (.ireturn, 1) := dk_172 (dk_at dksL_law_60 1 rfl rfl)
theorem dL_law_1509 : decode cL_law 1509 = .ok (.iinc 4 6, 3) := dk_132 4 6 (dk_at dksL_law_60 2 rfl rfl)
theorem dL_law_1512 : decode cL_law 1512 = .ok (.goto (-1489), 3) := dk_167 250 47 (dk_at dksL_law_60 5 rfl rfl)
theorem dL_law_1515 : decode cL_law 1515 = .ok (.iconst 1, 1) := dk_4 (dk_at dksL_law_60 8 rfl rfl)
theorem dL_law_1516 : decode cL_law 1516 = .ok (.ireturn, 1) := dk_172 (dk_at dksL_law_60 9 rfl rfl)
